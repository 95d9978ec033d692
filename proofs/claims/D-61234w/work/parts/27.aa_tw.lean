set_option maxRecDepth 100000
theorem cb_m2 : (Int8.ofInt (-2)).toInt32 = (-2) := by decide
theorem cb_6 : (Int8.ofInt 6).toInt32 = 6 := by decide
theorem cb_8 : (Int8.ofInt 8).toInt32 = 8 := by decide
theorem cb_9 : (Int8.ofInt 9).toInt32 = 9 := by decide
theorem cb_10 : (Int8.ofInt 10).toInt32 = 10 := by decide
theorem cb_12 : (Int8.ofInt 12).toInt32 = 12 := by decide
theorem cb_20 : (Int8.ofInt 20).toInt32 = 20 := by decide
theorem cb_32 : (Int8.ofInt 32).toInt32 = 32 := by decide
theorem cb_35 : (Int8.ofInt 35).toInt32 = 35 := by decide
theorem cb_36 : (Int8.ofInt 36).toInt32 = 36 := by decide
theorem cb_39 : (Int8.ofInt 39).toInt32 = 39 := by decide
theorem cb_40 : (Int8.ofInt 40).toInt32 = 40 := by decide
theorem cb_41 : (Int8.ofInt 41).toInt32 = 41 := by decide
theorem cb_44 : (Int8.ofInt 44).toInt32 = 44 := by decide
theorem cb_45 : (Int8.ofInt 45).toInt32 = 45 := by decide
theorem cb_46 : (Int8.ofInt 46).toInt32 = 46 := by decide
theorem cb_48 : (Int8.ofInt 48).toInt32 = 48 := by decide
theorem cb_56 : (Int8.ofInt 56).toInt32 = 56 := by decide
theorem cb_57 : (Int8.ofInt 57).toInt32 = 57 := by decide
theorem cb_59 : (Int8.ofInt 59).toInt32 = 59 := by decide
theorem cb_61 : (Int8.ofInt 61).toInt32 = 61 := by decide
theorem cb_63 : (Int8.ofInt 63).toInt32 = 63 := by decide
theorem cb_65 : (Int8.ofInt 65).toInt32 = 65 := by decide
theorem cb_80 : (Int8.ofInt 80).toInt32 = 80 := by decide
theorem cb_90 : (Int8.ofInt 90).toInt32 = 90 := by decide
theorem cb_126 : (Int8.ofInt 126).toInt32 = 126 := by decide
theorem ci_m8 : Int32.ofInt (-8) = (-8) := by decide
theorem ci_m1 : Int32.ofInt (-1) = (-1) := by decide
theorem ci_0 : Int32.ofInt 0 = 0 := by decide
theorem ci_1 : Int32.ofInt 1 = 1 := by decide
theorem ci_2 : Int32.ofInt 2 = 2 := by decide
theorem ci_3 : Int32.ofInt 3 = 3 := by decide
theorem ci_4 : Int32.ofInt 4 = 4 := by decide
theorem ci_5 : Int32.ofInt 5 = 5 := by decide
theorem cs_m10000 : (Int16.ofInt (-10000)).toInt32 = (-10000) := by decide
theorem cs_160 : (Int16.ofInt 160).toInt32 = 160 := by decide
theorem cs_1000 : (Int16.ofInt 1000).toInt32 = 1000 := by decide
theorem cs_1200 : (Int16.ofInt 1200).toInt32 = 1200 := by decide
theorem tws_0 (T : Nat) (σ : TW) (x : Int32) : (twFs T σ).set 0 (.int x) = twFs T (tsI σ 0 x) := rfl
theorem tws_1 (T : Nat) (σ : TW) (x : Int32) : (twFs T σ).set 1 (.int x) = twFs T (tsI σ 1 x) := rfl
theorem tws_18 (T : Nat) (σ : TW) (x : Int32) : (twFs T σ).set 18 (.int x) = twFs T (tsI σ 18 x) := rfl
theorem tws_19 (T : Nat) (σ : TW) (x : Int32) : (twFs T σ).set 19 (.int x) = twFs T (tsI σ 19 x) := rfl
theorem tws_20 (T : Nat) (σ : TW) (x : Int32) : (twFs T σ).set 20 (.int x) = twFs T (tsI σ 20 x) := rfl
theorem tws_24 (T : Nat) (σ : TW) (x : Int32) : (twFs T σ).set 24 (.int x) = twFs T (tsI σ 24 x) := rfl
theorem td_1 : 1 ≤ 1 ∧ 1 ≤ 19 := by decide
theorem td_2 : 1 ≤ 2 ∧ 2 ≤ 19 := by decide
theorem td_3 : 1 ≤ 3 ∧ 3 ≤ 19 := by decide
theorem td_4 : 1 ≤ 4 ∧ 4 ≤ 19 := by decide
theorem td_5 : 1 ≤ 5 ∧ 5 ≤ 19 := by decide
theorem td_6 : 1 ≤ 6 ∧ 6 ≤ 19 := by decide
theorem td_7 : 1 ≤ 7 ∧ 7 ≤ 19 := by decide
theorem td_8 : 1 ≤ 8 ∧ 8 ≤ 19 := by decide
theorem td_9 : 1 ≤ 9 ∧ 9 ≤ 19 := by decide
theorem td_10 : 1 ≤ 10 ∧ 10 ≤ 19 := by decide
theorem td_11 : 1 ≤ 11 ∧ 11 ≤ 19 := by decide
theorem td_12 : 1 ≤ 12 ∧ 12 ≤ 19 := by decide
theorem td_13 : 1 ≤ 13 ∧ 13 ≤ 19 := by decide
theorem td_14 : 1 ≤ 14 ∧ 14 ≤ 19 := by decide
theorem td_15 : 1 ≤ 15 ∧ 15 ≤ 19 := by decide
theorem td_16 : 1 ≤ 16 ∧ 16 ≤ 19 := by decide
theorem td_17 : 1 ≤ 17 ∧ 17 ≤ 19 := by decide
theorem td_18 : 1 ≤ 18 ∧ 18 ≤ 19 := by decide
theorem td_19 : 1 ≤ 19 ∧ 19 ≤ 19 := by decide
theorem tf_2 : 2 ≠ 23 ∧ 2 ≠ 9 := by decide
theorem tf_3 : 3 ≠ 23 ∧ 3 ≠ 9 := by decide
theorem tf_4 : 4 ≠ 23 ∧ 4 ≠ 9 := by decide
theorem tf_5 : 5 ≠ 23 ∧ 5 ≠ 9 := by decide
theorem tf_6 : 6 ≠ 23 ∧ 6 ≠ 9 := by decide
theorem tf_7 : 7 ≠ 23 ∧ 7 ≠ 9 := by decide
theorem tf_8 : 8 ≠ 23 ∧ 8 ≠ 9 := by decide
theorem tf_10 : 10 ≠ 23 ∧ 10 ≠ 9 := by decide
theorem tf_11 : 11 ≠ 23 ∧ 11 ≠ 9 := by decide
theorem tf_12 : 12 ≠ 23 ∧ 12 ≠ 9 := by decide
theorem tf_13 : 13 ≠ 23 ∧ 13 ≠ 9 := by decide
theorem tf_14 : 14 ≠ 23 ∧ 14 ≠ 9 := by decide
theorem tf_15 : 15 ≠ 23 ∧ 15 ≠ 9 := by decide
theorem tf_16 : 16 ≠ 23 ∧ 16 ≠ 9 := by decide
theorem tf_17 : 17 ≠ 23 ∧ 17 ≠ 9 := by decide
theorem tf_21 : 21 ≠ 23 ∧ 21 ≠ 9 := by decide
theorem tf_22 : 22 ≠ 23 ∧ 22 ≠ 9 := by decide
theorem fl_X2_7 : FL RX2 7 nX2 2 RX2 TX2 25 := ⟨rfl, by decide, _, q1947, Or.inl rfl⟩
theorem fl_X2_13 : FL RX2 13 nX2 3 RX2 TX2 25 := ⟨rfl, by decide, _, q1948, Or.inl rfl⟩
theorem fl_X2_16 : FL RX2 16 nX2 4 RX2 TX2 25 := ⟨rfl, by decide, _, q1949, Or.inl rfl⟩
theorem fl_X2_19 : FL RX2 19 nX2 5 RX2 TX2 25 := ⟨rfl, by decide, _, q1950, Or.inl rfl⟩
theorem fl_X2_22 : FL RX2 22 nX2 6 RX2 TX2 25 := ⟨rfl, by decide, _, q1951, Or.inl rfl⟩
theorem fl_X2_25 : FL RX2 25 nX2 7 RX2 TX2 25 := ⟨rfl, by decide, _, q1952, Or.inl rfl⟩
theorem fl_X2_28 : FL RX2 28 nX2 8 RX2 TX2 25 := ⟨rfl, by decide, _, q1953, Or.inl rfl⟩
theorem fl_X2_31 : FL RX2 31 nX2 9 RX2 TX2 25 := ⟨rfl, by decide, _, q1954, Or.inl rfl⟩
theorem fl_X2_35 : FL RX2 35 nX2 10 RX2 TX2 25 := ⟨rfl, by decide, _, q1955, Or.inl rfl⟩
theorem fl_X2_38 : FL RX2 38 nX2 11 RX2 TX2 25 := ⟨rfl, by decide, _, q1956, Or.inl rfl⟩
theorem fl_X2_41 : FL RX2 41 nX2 12 RX2 TX2 25 := ⟨rfl, by decide, _, q1957, Or.inl rfl⟩
theorem fl_X2_44 : FL RX2 44 nX2 13 RX2 TX2 25 := ⟨rfl, by decide, _, q1958, Or.inl rfl⟩
theorem fl_X2_47 : FL RX2 47 nX2 14 RX2 TX2 25 := ⟨rfl, by decide, _, q1959, Or.inl rfl⟩
theorem fl_X2_50 : FL RX2 50 nX2 15 RX2 TX2 25 := ⟨rfl, by decide, _, q1960, Or.inl rfl⟩
theorem fl_X2_53 : FL RX2 53 nX2 16 RX2 TX2 25 := ⟨rfl, by decide, _, q1961, Or.inl rfl⟩
theorem fl_X2_56 : FL RX2 56 nX2 17 RX2 TX2 25 := ⟨rfl, by decide, _, q1962, Or.inl rfl⟩
theorem fl_X2_59 : FL RX2 59 nX2 21 RX2 TX2 25 := ⟨rfl, by decide, _, q1966, Or.inl rfl⟩
theorem fl_X2_62 : FL RX2 62 nX2 22 RX2 TX2 25 := ⟨rfl, by decide, _, q1967, Or.inl rfl⟩
theorem fl_X2_65 : FL RX2 65 nX2 23 RX2 TX2 25 := ⟨rfl, by decide, _, q1968, Or.inl rfl⟩
theorem fl_X2_69 : FL RX2 69 nX2 0 RX2 TX2 25 := ⟨rfl, by decide, _, q1945, Or.inl rfl⟩
theorem fl_X2_79 : FL RX2 79 nX2 1 RX2 TX2 25 := ⟨rfl, by decide, _, q1946, Or.inl rfl⟩
theorem fl_X2_82 : FL RX2 82 nX2 18 RX2 TX2 25 := ⟨rfl, by decide, _, q1963, Or.inl rfl⟩
theorem fl_X2_85 : FL RX2 85 nX2 19 RX2 TX2 25 := ⟨rfl, by decide, _, q1964, Or.inl rfl⟩
theorem fl_X2_96 : FL RX2 96 nX2 20 RX2 TX2 25 := ⟨rfl, by decide, _, q1965, Or.inl rfl⟩
theorem fl_X2_159 : FL RX2 159 nX2 24 RX2 TX2 25 := ⟨rfl, by decide, _, q1969, Or.inl rfl⟩
def mX2_thrown : Md := (yX2_thrown, cX2_thrown, 1, (some Jvm.ClassFile.FieldType.int), none, 1, [(0, .aload_n 0, 1), (1, .getfield 69, 3), (4, .ireturn, 1)])
theorem okX2_thrown : mdOk mX2_thrown := ⟨by decide +kernel, q2025, q70, by decide, by unfold mdDc; decide +kernel⟩
def mX2_say : Md := (yX2_say, cX2_say, 7, (some Jvm.ClassFile.FieldType.int), none, 2, [(0, .aload_n 0, 1), (1, .iconst 0, 1), (2, .putfield 69, 3), (5, .iconst 0, 1), (6, .istore_n 3, 1), (7, .iconst 1, 1), (8, .istore 4, 2), (10, .bipush 56, 2), (12, .istore 5, 2), (14, .iload 5, 2), (16, .ifCond .lt 64, 3), (19, .lload_n 1, 1), (20, .iload 5, 2), (22, .lshr, 1), (23, .ldc2_w 73, 3), (26, .land, 1), (27, .l2i, 1), (28, .istore 6, 2), (30, .iload 4, 2), (32, .ifCond .eq 26, 3), (35, .iload 6, 2), (37, .ifCond .eq 17, 3), (40, .iload 6, 2), (42, .bipush 32, 2), (44, .if_icmp .lt 14, 3), (47, .iload 6, 2), (49, .bipush 126, 2), (51, .if_icmp .gt 7, 3), (54, .iconst 1, 1), (55, .goto 4, 3), (58, .iconst 0, 1), (59, .istore 4, 2), (61, .iload_n 3, 1), (62, .iload 6, 2), (64, .ifCond .ne 7, 3), (67, .iconst 0, 1), (68, .goto 4, 3), (71, .iconst 1, 1), (72, .iadd, 1), (73, .istore_n 3, 1), (74, .iinc 5 (-8), 3), (77, .goto (-63), 3), (80, .aload_n 0, 1), (81, .iload 4, 2), (83, .ifCond .ne 7, 3), (86, .iconst 1, 1), (87, .goto 4, 3), (90, .iconst 0, 1), (91, .iconst 1, 1), (92, .invokevirtual 75, 3), (95, .ifCond .ne 28, 3), (98, .aload_n 0, 1), (99, .aload_n 0, 1), (100, .getfield 79, 3), (103, .iload_n 3, 1), (104, .iadd, 1), (105, .sipush 1200, 3), (108, .if_icmp .le 7, 3), (111, .iconst 1, 1), (112, .goto 4, 3), (115, .iconst 0, 1), (116, .iconst 2, 1), (117, .invokevirtual 75, 3), (120, .ifCond .eq 5, 3), (123, .iconst 0, 1), (124, .ireturn, 1), (125, .bipush 56, 2), (127, .istore 5, 2), (129, .iload 5, 2), (131, .ifCond .lt 46, 3), (134, .lload_n 1, 1), (135, .iload 5, 2), (137, .lshr, 1), (138, .ldc2_w 73, 3), (141, .land, 1), (142, .l2i, 1), (143, .istore 6, 2), (145, .iload 6, 2), (147, .ifCond .le 24, 3), (150, .aload_n 0, 1), (151, .getfield 7, 3), (154, .aload_n 0, 1), (155, .getfield 79, 3), (158, .iload 6, 2), (160, .iastore, 1), (161, .aload_n 0, 1), (162, .dup, 1), (163, .getfield 79, 3), (166, .iconst 1, 1), (167, .iadd, 1), (168, .putfield 79, 3), (171, .iinc 5 (-8), 3), (174, .goto (-45), 3), (177, .aload_n 0, 1), (178, .getfield 79, 3), (181, .ireturn, 1)])
theorem okX2_say : mdOk mX2_say := ⟨by decide +kernel, q2029, q70, by decide, by unfold mdDc; decide +kernel⟩
def mX2_fails : Md := (yX2_fails, cX2_fails, 3, (some Jvm.ClassFile.FieldType.boolean), none, 1, [(0, .aload_n 0, 1), (1, .getfield 69, 3), (4, .ifCond .ne 12, 3), (7, .iload_n 1, 1), (8, .ifCond .eq 8, 3), (11, .aload_n 0, 1), (12, .iload_n 2, 1), (13, .putfield 69, 3), (16, .aload_n 0, 1), (17, .getfield 69, 3), (20, .ifCond .le 7, 3), (23, .iconst 1, 1), (24, .goto 4, 3), (27, .iconst 0, 1), (28, .ireturn, 1)])
theorem okX2_fails : mdOk mX2_fails := ⟨by decide +kernel, q2034, q70, by decide, by unfold mdDc; decide +kernel⟩
def mX2_trim : Md := (yX2_trim, cX2_trim, 2, (some Jvm.ClassFile.FieldType.int), none, 2, [(0, .aload_n 0, 1), (1, .iconst 0, 1), (2, .putfield 69, 3), (5, .aload_n 0, 1), (6, .iload_n 1, 1), (7, .ifCond .lt 11, 3), (10, .iload_n 1, 1), (11, .aload_n 0, 1), (12, .getfield 79, 3), (15, .if_icmp .le 7, 3), (18, .iconst 1, 1), (19, .goto 4, 3), (22, .iconst 0, 1), (23, .iconst 1, 1), (24, .invokevirtual 75, 3), (27, .ifCond .eq 5, 3), (30, .iconst 0, 1), (31, .ireturn, 1), (32, .aload_n 0, 1), (33, .dup, 1), (34, .getfield 79, 3), (37, .iload_n 1, 1), (38, .isub, 1), (39, .putfield 79, 3), (42, .aload_n 0, 1), (43, .getfield 79, 3), (46, .ireturn, 1)])
theorem okX2_trim : mdOk mX2_trim := ⟨by decide +kernel, q2038, q70, by decide, by unfold mdDc; decide +kernel⟩
def mX2_charAt : Md := (yX2_charAt, cX2_charAt, 2, (some Jvm.ClassFile.FieldType.int), none, 2, [(0, .aload_n 0, 1), (1, .iconst 0, 1), (2, .putfield 69, 3), (5, .aload_n 0, 1), (6, .iload_n 1, 1), (7, .ifCond .lt 11, 3), (10, .iload_n 1, 1), (11, .aload_n 0, 1), (12, .getfield 79, 3), (15, .if_icmp .lt 7, 3), (18, .iconst 1, 1), (19, .goto 4, 3), (22, .iconst 0, 1), (23, .iconst 1, 1), (24, .invokevirtual 75, 3), (27, .ifCond .eq 7, 3), (30, .iconst 0, 1), (31, .goto 9, 3), (34, .aload_n 0, 1), (35, .getfield 7, 3), (38, .iload_n 1, 1), (39, .iaload, 1), (40, .ireturn, 1)])
theorem okX2_charAt : mdOk mX2_charAt := ⟨by decide +kernel, q2042, q70, by decide, by unfold mdDc; decide +kernel⟩
def mX2_schema : Md := (yX2_schema, cX2_schema, 3, (some Jvm.ClassFile.FieldType.int), none, 4, [(0, .aload_n 0, 1), (1, .iconst 0, 1), (2, .putfield 69, 3), (5, .aload_n 0, 1), (6, .iconst 0, 1), (7, .putfield 82, 3), (10, .aload_n 0, 1), (11, .iconst (-1), 1), (12, .putfield 85, 3), (15, .aload_n 0, 1), (16, .getfield 16, 3), (19, .iconst 1, 1), (20, .iconst 0, 1), (21, .iastore, 1), (22, .aload_n 0, 1), (23, .getfield 85, 3), (26, .iconst (-1), 1), (27, .if_icmp .ne 17, 3), (30, .aload_n 0, 1), (31, .invokevirtual 88, 3), (34, .ifCond .eq 10, 3), (37, .aload_n 0, 1), (38, .invokevirtual 125, 3), (41, .goto (-19), 3), (44, .aload_n 0, 1), (45, .getfield 85, 3), (48, .iconst (-1), 1), (49, .if_icmp .eq 10, 3), (52, .iconst (-1), 1), (53, .aload_n 0, 1), (54, .getfield 85, 3), (57, .isub, 1), (58, .ireturn, 1), (59, .aload_n 0, 1), (60, .getfield 16, 3), (63, .iconst 0, 1), (64, .aload_n 0, 1), (65, .getfield 16, 3), (68, .iconst 1, 1), (69, .iaload, 1), (70, .iastore, 1), (71, .iconst 0, 1), (72, .istore_n 1, 1), (73, .iload_n 1, 1), (74, .bipush 12, 2), (76, .if_icmp .ge 128, 3), (79, .aload_n 0, 1), (80, .getfield 19, 3), (83, .iload_n 1, 1), (84, .aload_n 0, 1), (85, .getfield 19, 3), (88, .bipush 12, 2), (90, .iload_n 1, 1), (91, .iadd, 1), (92, .iaload, 1), (93, .iastore, 1), (94, .aload_n 0, 1), (95, .getfield 25, 3), (98, .iload_n 1, 1), (99, .aload_n 0, 1), (100, .getfield 25, 3), (103, .bipush 12, 2), (105, .iload_n 1, 1), (106, .iadd, 1), (107, .iaload, 1), (108, .iastore, 1), (109, .iconst 0, 1), (110, .istore_n 2, 1), (111, .iload_n 2, 1), (112, .bipush 8, 2), (114, .if_icmp .ge 84, 3), (117, .aload_n 0, 1), (118, .getfield 22, 3), (121, .bipush 8, 2), (123, .iload_n 1, 1), (124, .imul, 1), (125, .iload_n 2, 1), (126, .iadd, 1), (127, .aload_n 0, 1), (128, .getfield 22, 3), (131, .bipush 8, 2), (133, .bipush 12, 2), (135, .iload_n 1, 1), (136, .iadd, 1), (137, .imul, 1), (138, .iload_n 2, 1), (139, .iadd, 1), (140, .iaload, 1), (141, .iastore, 1), (142, .aload_n 0, 1), (143, .getfield 28, 3), (146, .bipush 8, 2), (148, .iload_n 1, 1), (149, .imul, 1), (150, .iload_n 2, 1), (151, .iadd, 1), (152, .aload_n 0, 1), (153, .getfield 28, 3), (156, .bipush 8, 2), (158, .bipush 12, 2), (160, .iload_n 1, 1), (161, .iadd, 1), (162, .imul, 1), (163, .iload_n 2, 1), (164, .iadd, 1), (165, .iaload, 1), (166, .iastore, 1), (167, .aload_n 0, 1), (168, .getfield 31, 3), (171, .bipush 8, 2), (173, .iload_n 1, 1), (174, .imul, 1), (175, .iload_n 2, 1), (176, .iadd, 1), (177, .aload_n 0, 1), (178, .getfield 31, 3), (181, .bipush 8, 2), (183, .bipush 12, 2), (185, .iload_n 1, 1), (186, .iadd, 1), (187, .imul, 1), (188, .iload_n 2, 1), (189, .iadd, 1), (190, .baload, 1), (191, .bastore, 1), (192, .iinc 2 1, 3), (195, .goto (-84), 3), (198, .iinc 1 1, 3), (201, .goto (-128), 3), (204, .aload_n 0, 1), (205, .iconst 0, 1), (206, .putfield 79, 3), (209, .aload_n 0, 1), (210, .getfield 16, 3), (213, .iconst 0, 1), (214, .iaload, 1), (215, .ireturn, 1)])
theorem okX2_schema : mdOk mX2_schema := ⟨by decide +kernel, q2046, q70, by decide, by unfold mdDc; decide +kernel⟩
def mX2_peek : Md := (yX2_peek, cX2_peek, 1, (some Jvm.ClassFile.FieldType.int), none, 1, [(0, .aload_n 0, 1), (1, .getfield 82, 3), (4, .aload_n 0, 1), (5, .getfield 79, 3), (8, .if_icmp .ge 30, 3), (11, .aload_n 0, 1), (12, .getfield 7, 3), (15, .aload_n 0, 1), (16, .getfield 82, 3), (19, .iaload, 1), (20, .bipush 32, 2), (22, .if_icmp .ne 16, 3), (25, .aload_n 0, 1), (26, .dup, 1), (27, .getfield 82, 3), (30, .iconst 1, 1), (31, .iadd, 1), (32, .putfield 82, 3), (35, .goto (-35), 3), (38, .aload_n 0, 1), (39, .getfield 82, 3), (42, .aload_n 0, 1), (43, .getfield 79, 3), (46, .if_icmp .ge 15, 3), (49, .aload_n 0, 1), (50, .getfield 7, 3), (53, .aload_n 0, 1), (54, .getfield 82, 3), (57, .iaload, 1), (58, .goto 4, 3), (61, .iconst 0, 1), (62, .ireturn, 1)])
theorem okX2_peek : mdOk mX2_peek := ⟨by decide +kernel, q2050, q70, by decide, by unfold mdDc; decide +kernel⟩
def mX2_kind : Md := (yX2_kind, cX2_kind, 6, none, none, 3, [(0, .bipush 12, 2), (2, .aload_n 0, 1), (3, .getfield 16, 3), (6, .iconst 1, 1), (7, .iaload, 1), (8, .iadd, 1), (9, .istore_n 1, 1), (10, .aload_n 0, 1), (11, .getfield 16, 3), (14, .iconst 1, 1), (15, .iaload, 1), (16, .bipush 12, 2), (18, .if_icmp .ne 12, 3), (21, .aload_n 0, 1), (22, .aload_n 0, 1), (23, .getfield 82, 3), (26, .invokevirtual 92, 3), (29, .return_, 1), (30, .aload_n 0, 1), (31, .getfield 19, 3), (34, .iload_n 1, 1), (35, .aload_n 0, 1), (36, .aload_n 0, 1), (37, .getfield 22, 3), (40, .bipush 8, 2), (42, .iload_n 1, 1), (43, .imul, 1), (44, .invokevirtual 113, 3), (47, .iastore, 1), (48, .bipush 12, 2), (50, .istore_n 2, 1), (51, .iload_n 2, 1), (52, .iload_n 1, 1), (53, .if_icmp .ge 60, 3), (56, .aload_n 0, 1), (57, .getfield 19, 3), (60, .iload_n 2, 1), (61, .iaload, 1), (62, .aload_n 0, 1), (63, .getfield 19, 3), (66, .iload_n 1, 1), (67, .iaload, 1), (68, .if_icmp .ne 39, 3), (71, .aload_n 0, 1), (72, .getfield 22, 3), (75, .bipush 8, 2), (77, .iload_n 2, 1), (78, .imul, 1), (79, .aload_n 0, 1), (80, .getfield 22, 3), (83, .bipush 8, 2), (85, .iload_n 1, 1), (86, .imul, 1), (87, .aload_n 0, 1), (88, .getfield 19, 3), (91, .iload_n 1, 1), (92, .iaload, 1), (93, .invokestatic 117, 3), (96, .ifCond .eq 11, 3), (99, .aload_n 0, 1), (100, .aload_n 0, 1), (101, .getfield 96, 3), (104, .invokevirtual 92, 3), (107, .iinc 2 1, 3), (110, .goto (-59), 3), (113, .aload_n 0, 1), (114, .bipush 61, 2), (116, .invokevirtual 110, 3), (119, .iconst 0, 1), (120, .istore_n 2, 1), (121, .iconst 1, 1), (122, .istore_n 3, 1), (123, .iconst 1, 1), (124, .istore 4, 2), (126, .iload_n 3, 1), (127, .ifCond .eq 138, 3), (130, .aload_n 0, 1), (131, .getfield 85, 3), (134, .iconst (-1), 1), (135, .if_icmp .ne 130, 3), (138, .aload_n 0, 1), (139, .invokevirtual 88, 3), (142, .istore 5, 2), (144, .iload_n 2, 1), (145, .ifCond .le 15, 3), (148, .iload 5, 2), (150, .bipush 59, 2), (152, .if_icmp .ne 8, 3), (155, .iconst 0, 1), (156, .istore_n 3, 1), (157, .goto 95, 3), (160, .iload 4, 2), (162, .ifCond .ne 30, 3), (165, .iload 5, 2), (167, .bipush 63, 2), (169, .if_icmp .ne 23, 3), (172, .aload_n 0, 1), (173, .getfield 31, 3), (176, .bipush 8, 2), (178, .iload_n 1, 1), (179, .imul, 1), (180, .iload_n 2, 1), (181, .iadd, 1), (182, .iconst 1, 1), (183, .isub, 1), (184, .iconst 1, 1), (185, .bastore, 1), (186, .iconst 1, 1), (187, .istore 4, 2), (189, .goto 63, 3), (192, .iload_n 2, 1), (193, .bipush 8, 2), (195, .if_icmp .eq 12, 3), (198, .iload 5, 2), (200, .invokestatic 121, 3), (203, .iconst (-1), 1), (204, .if_icmp .ne 14, 3), (207, .aload_n 0, 1), (208, .aload_n 0, 1), (209, .getfield 82, 3), (212, .invokevirtual 92, 3), (215, .goto 37, 3), (218, .aload_n 0, 1), (219, .getfield 28, 3), (222, .bipush 8, 2), (224, .iload_n 1, 1), (225, .imul, 1), (226, .iload_n 2, 1), (227, .iadd, 1), (228, .iload 5, 2), (230, .invokestatic 121, 3), (233, .iastore, 1), (234, .aload_n 0, 1), (235, .getfield 31, 3), (238, .bipush 8, 2), (240, .iload_n 1, 1), (241, .imul, 1), (242, .iload_n 2, 1), (243, .iadd, 1), (244, .iconst 0, 1), (245, .bastore, 1), (246, .iconst 0, 1), (247, .istore 4, 2), (249, .iinc 2 1, 3), (252, .aload_n 0, 1), (253, .dup, 1), (254, .getfield 82, 3), (257, .iconst 1, 1), (258, .iadd, 1), (259, .putfield 82, 3), (262, .goto (-136), 3), (265, .aload_n 0, 1), (266, .getfield 25, 3), (269, .iload_n 1, 1), (270, .iload_n 2, 1), (271, .iastore, 1), (272, .aload_n 0, 1), (273, .getfield 16, 3), (276, .iconst 1, 1), (277, .dup2, 1), (278, .iaload, 1), (279, .iconst 1, 1), (280, .iadd, 1), (281, .iastore, 1), (282, .return_, 1)])
theorem okX2_kind : mdOk mX2_kind := ⟨by decide +kernel, q2054, q70, by decide, by unfold mdDc; decide +kernel⟩
def mX2_wrongAt : Md := (yX2_wrongAt, cX2_wrongAt, 2, none, none, 1, [(0, .aload_n 0, 1), (1, .getfield 85, 3), (4, .iconst (-1), 1), (5, .if_icmp .ne 8, 3), (8, .aload_n 0, 1), (9, .iload_n 1, 1), (10, .putfield 85, 3), (13, .return_, 1)])
theorem okX2_wrongAt : mdOk mX2_wrongAt := ⟨by decide +kernel, q2058, q70, by decide, by unfold mdDc; decide +kernel⟩
def mX2_name : Md := (yX2_name, cX2_name, 3, (some Jvm.ClassFile.FieldType.int), none, 2, [(0, .aload_n 0, 1), (1, .getfield 85, 3), (4, .iconst (-1), 1), (5, .if_icmp .eq 5, 3), (8, .iconst 0, 1), (9, .ireturn, 1), (10, .aload_n 0, 1), (11, .invokevirtual 88, 3), (14, .pop, 1), (15, .aload_n 0, 1), (16, .aload_n 0, 1), (17, .getfield 82, 3), (20, .putfield 96, 3), (23, .aload_n 0, 1), (24, .getfield 82, 3), (27, .aload_n 0, 1), (28, .getfield 79, 3), (31, .if_icmp .ge 67, 3), (34, .aload_n 0, 1), (35, .getfield 7, 3), (38, .aload_n 0, 1), (39, .getfield 82, 3), (42, .iaload, 1), (43, .invokestatic 103, 3), (46, .ifCond .eq 52, 3), (49, .aload_n 0, 1), (50, .getfield 82, 3), (53, .aload_n 0, 1), (54, .getfield 96, 3), (57, .isub, 1), (58, .bipush 8, 2), (60, .if_icmp .ge 25, 3), (63, .aload_n 1, 1), (64, .iload_n 2, 1), (65, .aload_n 0, 1), (66, .getfield 82, 3), (69, .iadd, 1), (70, .aload_n 0, 1), (71, .getfield 96, 3), (74, .isub, 1), (75, .aload_n 0, 1), (76, .getfield 7, 3), (79, .aload_n 0, 1), (80, .getfield 82, 3), (83, .iaload, 1), (84, .iastore, 1), (85, .aload_n 0, 1), (86, .dup, 1), (87, .getfield 82, 3), (90, .iconst 1, 1), (91, .iadd, 1), (92, .putfield 82, 3), (95, .goto (-72), 3), (98, .aload_n 0, 1), (99, .getfield 82, 3), (102, .aload_n 0, 1), (103, .getfield 96, 3), (106, .if_icmp .eq 17, 3), (109, .aload_n 0, 1), (110, .getfield 82, 3), (113, .aload_n 0, 1), (114, .getfield 96, 3), (117, .isub, 1), (118, .bipush 8, 2), (120, .if_icmp .le 11, 3), (123, .aload_n 0, 1), (124, .aload_n 0, 1), (125, .getfield 96, 3), (128, .invokevirtual 92, 3), (131, .aload_n 0, 1), (132, .getfield 82, 3), (135, .aload_n 0, 1), (136, .getfield 96, 3), (139, .isub, 1), (140, .ireturn, 1)])
theorem okX2_name : mdOk mX2_name := ⟨by decide +kernel, q2062, q70, by decide, by unfold mdDc; decide +kernel⟩
def mX2_isLetter : Md := (yX2_isLetter, cX2_isLetter, 1, (some Jvm.ClassFile.FieldType.boolean), none, 1, [(0, .iload_n 0, 1), (1, .bipush 65, 2), (3, .if_icmp .lt 13, 3), (6, .iload_n 0, 1), (7, .bipush 90, 2), (9, .if_icmp .gt 7, 3), (12, .iconst 1, 1), (13, .goto 4, 3), (16, .iconst 0, 1), (17, .ireturn, 1)])
theorem okX2_isLetter : mdOk mX2_isLetter := ⟨by decide +kernel, q2065, q70, by decide, by unfold mdDc; decide +kernel⟩
def mX2_isSame : Md := (yX2_isSame, cX2_isSame, 7, (some Jvm.ClassFile.FieldType.boolean), none, 1, [(0, .iconst 1, 1), (1, .istore 5, 2), (3, .iconst 0, 1), (4, .istore 6, 2), (6, .iload 6, 2), (8, .iload 4, 2), (10, .if_icmp .ge 36, 3), (13, .iload 5, 2), (15, .ifCond .eq 22, 3), (18, .aload_n 0, 1), (19, .iload_n 1, 1), (20, .iload 6, 2), (22, .iadd, 1), (23, .iaload, 1), (24, .aload_n 2, 1), (25, .iload_n 3, 1), (26, .iload 6, 2), (28, .iadd, 1), (29, .iaload, 1), (30, .if_icmp .ne 7, 3), (33, .iconst 1, 1), (34, .goto 4, 3), (37, .iconst 0, 1), (38, .istore 5, 2), (40, .iinc 6 1, 3), (43, .goto (-37), 3), (46, .iload 5, 2), (48, .ireturn, 1)])
theorem okX2_isSame : mdOk mX2_isSame := ⟨by decide +kernel, q2068, q70, by decide, by unfold mdDc; decide +kernel⟩
def mX2_sign : Md := (yX2_sign, cX2_sign, 2, none, none, 2, [(0, .aload_n 0, 1), (1, .getfield 85, 3), (4, .iconst (-1), 1), (5, .if_icmp .eq 4, 3), (8, .return_, 1), (9, .aload_n 0, 1), (10, .invokevirtual 88, 3), (13, .iload_n 1, 1), (14, .if_icmp .ne 16, 3), (17, .aload_n 0, 1), (18, .dup, 1), (19, .getfield 82, 3), (22, .iconst 1, 1), (23, .iadd, 1), (24, .putfield 82, 3), (27, .goto 11, 3), (30, .aload_n 0, 1), (31, .aload_n 0, 1), (32, .getfield 82, 3), (35, .invokevirtual 92, 3), (38, .return_, 1)])
theorem okX2_sign : mdOk mX2_sign := ⟨by decide +kernel, q2072, q70, by decide, by unfold mdDc; decide +kernel⟩
def mX2_sortOf : Md := (yX2_sortOf, cX2_sortOf, 1, (some Jvm.ClassFile.FieldType.int), none, 1, [(0, .iload_n 0, 1), (1, .tableswitch 91 69 84 #[89, 91, 91, 91, 79, 91, 91, 85, 87, 91, 91, 91, 91, 83, 91, 81], 79), (80, .iconst 0, 1), (81, .ireturn, 1), (82, .iconst 1, 1), (83, .ireturn, 1), (84, .iconst 2, 1), (85, .ireturn, 1), (86, .iconst 3, 1), (87, .ireturn, 1), (88, .iconst 4, 1), (89, .ireturn, 1), (90, .iconst 5, 1), (91, .ireturn, 1), (92, .iconst (-1), 1), (93, .ireturn, 1)])
theorem okX2_sortOf : mdOk mX2_sortOf := ⟨by decide +kernel, q2075, q70, by decide, by unfold mdDc; decide +kernel⟩
def mX2_read : Md := (yX2_read, cX2_read, 4, (some Jvm.ClassFile.FieldType.int), none, 7, [(0, .aload_n 0, 1), (1, .iconst 0, 1), (2, .putfield 69, 3), (5, .aload_n 0, 1), (6, .iconst 0, 1), (7, .putfield 82, 3), (10, .aload_n 0, 1), (11, .iconst (-1), 1), (12, .putfield 85, 3), (15, .aload_n 0, 1), (16, .getfield 35, 3), (19, .iconst 1, 1), (20, .iconst 0, 1), (21, .iastore, 1), (22, .aload_n 0, 1), (23, .getfield 85, 3), (26, .iconst (-1), 1), (27, .if_icmp .ne 17, 3), (30, .aload_n 0, 1), (31, .invokevirtual 88, 3), (34, .ifCond .eq 10, 3), (37, .aload_n 0, 1), (38, .invokevirtual 149, 3), (41, .goto (-19), 3), (44, .aload_n 0, 1), (45, .getfield 85, 3), (48, .iconst (-1), 1), (49, .if_icmp .eq 10, 3), (52, .iconst (-1), 1), (53, .aload_n 0, 1), (54, .getfield 85, 3), (57, .isub, 1), (58, .ireturn, 1), (59, .bipush 40, 2), (61, .istore_n 1, 1), (62, .iload_n 1, 1), (63, .bipush 40, 2), (65, .aload_n 0, 1), (66, .getfield 35, 3), (69, .iconst 1, 1), (70, .iaload, 1), (71, .iadd, 1), (72, .if_icmp .ge 28, 3), (75, .aload_n 0, 1), (76, .iload_n 1, 1), (77, .invokevirtual 152, 3), (80, .ifCond .eq 14, 3), (83, .sipush (-10000), 3), (86, .aload_n 0, 1), (87, .getfield 38, 3), (90, .iload_n 1, 1), (91, .iaload, 1), (92, .isub, 1), (93, .ireturn, 1), (94, .iinc 1 1, 3), (97, .goto (-35), 3), (100, .aload_n 0, 1), (101, .getfield 35, 3), (104, .iconst 0, 1), (105, .aload_n 0, 1), (106, .getfield 35, 3), (109, .iconst 1, 1), (110, .iaload, 1), (111, .iastore, 1), (112, .bipush 40, 2), (114, .istore_n 1, 1), (115, .iload_n 1, 1), (116, .bipush 40, 2), (118, .aload_n 0, 1), (119, .getfield 35, 3), (122, .iconst 1, 1), (123, .iaload, 1), (124, .iadd, 1), (125, .if_icmp .ge 62, 3), (128, .iconst 0, 1), (129, .istore_n 2, 1), (130, .bipush 40, 2), (132, .istore_n 3, 1), (133, .iload_n 3, 1), (134, .bipush 40, 2), (136, .aload_n 0, 1), (137, .getfield 35, 3), (140, .iconst 1, 1), (141, .iaload, 1), (142, .iadd, 1), (143, .if_icmp .ge 32, 3), (146, .iload_n 2, 1), (147, .aload_n 0, 1), (148, .getfield 38, 3), (151, .iload_n 3, 1), (152, .iaload, 1), (153, .aload_n 0, 1), (154, .getfield 38, 3), (157, .iload_n 1, 1), (158, .iaload, 1), (159, .if_icmp .ge 7, 3), (162, .iconst 1, 1), (163, .goto 4, 3), (166, .iconst 0, 1), (167, .iadd, 1), (168, .istore_n 2, 1), (169, .iinc 3 1, 3), (172, .goto (-39), 3), (175, .aload_n 0, 1), (176, .iload_n 2, 1), (177, .iload_n 1, 1), (178, .invokevirtual 155, 3), (181, .iinc 1 1, 3), (184, .goto (-69), 3), (187, .aload_n 0, 1), (188, .iconst 0, 1), (189, .putfield 79, 3), (192, .aload_n 0, 1), (193, .getfield 35, 3), (196, .iconst 0, 1), (197, .iaload, 1), (198, .ireturn, 1)])
theorem okX2_read : mdOk mX2_read := ⟨by decide +kernel, q2079, q70, by decide, by unfold mdDc; decide +kernel⟩
def mX2_oneLine : Md := (yX2_oneLine, cX2_oneLine, 5, none, none, 6, [(0, .aload_n 0, 1), (1, .invokevirtual 88, 3), (4, .bipush 35, 2), (6, .if_icmp .ne 14, 3), (9, .aload_n 0, 1), (10, .getfield 35, 3), (13, .iconst 1, 1), (14, .iaload, 1), (15, .bipush 40, 2), (17, .if_icmp .ne 12, 3), (20, .aload_n 0, 1), (21, .aload_n 0, 1), (22, .getfield 82, 3), (25, .invokevirtual 92, 3), (28, .return_, 1), (29, .aload_n 0, 1), (30, .dup, 1), (31, .getfield 82, 3), (34, .iconst 1, 1), (35, .iadd, 1), (36, .putfield 82, 3), (39, .bipush 40, 2), (41, .aload_n 0, 1), (42, .getfield 35, 3), (45, .iconst 1, 1), (46, .iaload, 1), (47, .iadd, 1), (48, .istore_n 1, 1), (49, .aload_n 0, 1), (50, .iconst 3, 1), (51, .iconst (-1), 1), (52, .invokevirtual 106, 3), (55, .istore_n 2, 1), (56, .iload_n 2, 1), (57, .ifCond .eq 13, 3), (60, .aload_n 0, 1), (61, .iconst 1, 1), (62, .iload_n 2, 1), (63, .invokevirtual 143, 3), (66, .iconst (-1), 1), (67, .if_icmp .eq 11, 3), (70, .aload_n 0, 1), (71, .aload_n 0, 1), (72, .getfield 96, 3), (75, .invokevirtual 92, 3), (78, .aload_n 0, 1), (79, .getfield 38, 3), (82, .iload_n 1, 1), (83, .iload_n 2, 1), (84, .iastore, 1), (85, .aload_n 0, 1), (86, .bipush 61, 2), (88, .invokevirtual 110, 3), (91, .aload_n 0, 1), (92, .getfield 41, 3), (95, .iload_n 1, 1), (96, .aload_n 0, 1), (97, .aload_n 0, 1), (98, .getfield 44, 3), (101, .bipush 8, 2), (103, .iload_n 1, 1), (104, .imul, 1), (105, .invokevirtual 113, 3), (108, .iastore, 1), (109, .aload_n 0, 1), (110, .bipush 40, 2), (112, .invokevirtual 110, 3), (115, .iconst 0, 1), (116, .istore_n 3, 1), (117, .iconst 1, 1), (118, .istore 4, 2), (120, .iload 4, 2), (122, .ifCond .eq 88, 3), (125, .aload_n 0, 1), (126, .getfield 85, 3), (129, .iconst (-1), 1), (130, .if_icmp .ne 80, 3), (133, .aload_n 0, 1), (134, .invokevirtual 88, 3), (137, .pop, 1), (138, .iload_n 3, 1), (139, .bipush 8, 2), (141, .if_icmp .ne 14, 3), (144, .aload_n 0, 1), (145, .aload_n 0, 1), (146, .getfield 82, 3), (149, .invokevirtual 92, 3), (152, .goto (-32), 3), (155, .aload_n 0, 1), (156, .bipush 8, 2), (158, .iload_n 1, 1), (159, .imul, 1), (160, .iload_n 3, 1), (161, .iadd, 1), (162, .invokevirtual 146, 3), (165, .iinc 3 1, 3), (168, .aload_n 0, 1), (169, .getfield 85, 3), (172, .iconst (-1), 1), (173, .if_icmp .ne 16, 3), (176, .aload_n 0, 1), (177, .invokevirtual 88, 3), (180, .bipush 44, 2), (182, .if_icmp .ne 7, 3), (185, .iconst 1, 1), (186, .goto 4, 3), (189, .iconst 0, 1), (190, .istore 4, 2), (192, .iload 4, 2), (194, .ifCond .eq (-74), 3), (197, .aload_n 0, 1), (198, .dup, 1), (199, .getfield 82, 3), (202, .iconst 1, 1), (203, .iadd, 1), (204, .putfield 82, 3), (207, .goto (-87), 3), (210, .aload_n 0, 1), (211, .bipush 41, 2), (213, .invokevirtual 110, 3), (216, .aload_n 0, 1), (217, .bipush 59, 2), (219, .invokevirtual 110, 3), (222, .aload_n 0, 1), (223, .getfield 47, 3), (226, .iload_n 1, 1), (227, .iload_n 3, 1), (228, .iastore, 1), (229, .aload_n 0, 1), (230, .getfield 35, 3), (233, .iconst 1, 1), (234, .dup2, 1), (235, .iaload, 1), (236, .iconst 1, 1), (237, .iadd, 1), (238, .iastore, 1), (239, .return_, 1)])
theorem okX2_oneLine : mdOk mX2_oneLine := ⟨by decide +kernel, q2083, q70, by decide, by unfold mdDc; decide +kernel⟩
def mX2_digits : Md := (yX2_digits, cX2_digits, 4, (some Jvm.ClassFile.FieldType.int), none, 2, [(0, .aload_n 0, 1), (1, .getfield 85, 3), (4, .iconst (-1), 1), (5, .if_icmp .eq 5, 3), (8, .iconst 0, 1), (9, .ireturn, 1), (10, .aload_n 0, 1), (11, .invokevirtual 88, 3), (14, .pop, 1), (15, .aload_n 0, 1), (16, .aload_n 0, 1), (17, .getfield 82, 3), (20, .putfield 96, 3), (23, .iconst 0, 1), (24, .istore_n 3, 1), (25, .aload_n 0, 1), (26, .getfield 82, 3), (29, .aload_n 0, 1), (30, .getfield 79, 3), (33, .if_icmp .ge 63, 3), (36, .aload_n 0, 1), (37, .getfield 7, 3), (40, .aload_n 0, 1), (41, .getfield 82, 3), (44, .iaload, 1), (45, .invokestatic 99, 3), (48, .ifCond .eq 48, 3), (51, .aload_n 0, 1), (52, .getfield 82, 3), (55, .aload_n 0, 1), (56, .getfield 96, 3), (59, .isub, 1), (60, .bipush 9, 2), (62, .if_icmp .ge 21, 3), (65, .bipush 10, 2), (67, .iload_n 3, 1), (68, .imul, 1), (69, .aload_n 0, 1), (70, .getfield 7, 3), (73, .aload_n 0, 1), (74, .getfield 82, 3), (77, .iaload, 1), (78, .iadd, 1), (79, .bipush 48, 2), (81, .isub, 1), (82, .istore_n 3, 1), (83, .aload_n 0, 1), (84, .dup, 1), (85, .getfield 82, 3), (88, .iconst 1, 1), (89, .iadd, 1), (90, .putfield 82, 3), (93, .goto (-68), 3), (96, .aload_n 0, 1), (97, .getfield 82, 3), (100, .aload_n 0, 1), (101, .getfield 96, 3), (104, .if_icmp .ne 11, 3), (107, .aload_n 0, 1), (108, .aload_n 0, 1), (109, .getfield 82, 3), (112, .invokevirtual 92, 3), (115, .aload_n 0, 1), (116, .getfield 82, 3), (119, .aload_n 0, 1), (120, .getfield 96, 3), (123, .isub, 1), (124, .iload_n 1, 1), (125, .if_icmp .le 20, 3), (128, .aload_n 0, 1), (129, .iload_n 2, 1), (130, .iconst (-1), 1), (131, .if_icmp .ne 10, 3), (134, .aload_n 0, 1), (135, .getfield 96, 3), (138, .goto 4, 3), (141, .iload_n 2, 1), (142, .invokevirtual 92, 3), (145, .iload_n 3, 1), (146, .ireturn, 1)])
theorem okX2_digits : mdOk mX2_digits := ⟨by decide +kernel, q2087, q70, by decide, by unfold mdDc; decide +kernel⟩
def mX2_isDigit : Md := (yX2_isDigit, cX2_isDigit, 1, (some Jvm.ClassFile.FieldType.boolean), none, 1, [(0, .iload_n 0, 1), (1, .bipush 48, 2), (3, .if_icmp .lt 13, 3), (6, .iload_n 0, 1), (7, .bipush 57, 2), (9, .if_icmp .gt 7, 3), (12, .iconst 1, 1), (13, .goto 4, 3), (16, .iconst 0, 1), (17, .ireturn, 1)])
theorem okX2_isDigit : mdOk mX2_isDigit := ⟨by decide +kernel, q2090, q70, by decide, by unfold mdDc; decide +kernel⟩
def mX2_find : Md := (yX2_find, cX2_find, 4, (some Jvm.ClassFile.FieldType.int), none, 1, [(0, .bipush 40, 2), (2, .iload_n 1, 1), (3, .imul, 1), (4, .istore_n 3, 1), (5, .iload_n 3, 1), (6, .bipush 40, 2), (8, .iload_n 1, 1), (9, .imul, 1), (10, .aload_n 0, 1), (11, .getfield 35, 3), (14, .iload_n 1, 1), (15, .iaload, 1), (16, .iadd, 1), (17, .if_icmp .ge 21, 3), (20, .aload_n 0, 1), (21, .getfield 38, 3), (24, .iload_n 3, 1), (25, .iaload, 1), (26, .iload_n 2, 1), (27, .if_icmp .ne 5, 3), (30, .iload_n 3, 1), (31, .ireturn, 1), (32, .iinc 3 1, 3), (35, .goto (-30), 3), (38, .iconst (-1), 1), (39, .ireturn, 1)])
theorem okX2_find : mdOk mX2_find := ⟨by decide +kernel, q2094, q70, by decide, by unfold mdDc; decide +kernel⟩
def mX2_argument : Md := (yX2_argument, cX2_argument, 3, none, none, 5, [(0, .aload_n 0, 1), (1, .invokevirtual 88, 3), (4, .istore_n 2, 1), (5, .aload_n 0, 1), (6, .getfield 53, 3), (9, .iload_n 1, 1), (10, .iconst 0, 1), (11, .iastore, 1), (12, .iload_n 2, 1), (13, .invokestatic 128, 3), (16, .ifCond .eq 23, 3), (19, .aload_n 0, 1), (20, .getfield 50, 3), (23, .iload_n 1, 1), (24, .iconst 0, 1), (25, .iastore, 1), (26, .aload_n 0, 1), (27, .getfield 53, 3), (30, .iload_n 1, 1), (31, .aload_n 0, 1), (32, .invokevirtual 134, 3), (35, .iastore, 1), (36, .goto 142, 3), (39, .iload_n 2, 1), (40, .bipush 39, 2), (42, .if_icmp .ne 11, 3), (45, .aload_n 0, 1), (46, .iload_n 1, 1), (47, .invokevirtual 137, 3), (50, .goto 128, 3), (53, .iload_n 2, 1), (54, .bipush 35, 2), (56, .if_icmp .ne 23, 3), (59, .aload_n 0, 1), (60, .getfield 50, 3), (63, .iload_n 1, 1), (64, .iconst 2, 1), (65, .iastore, 1), (66, .aload_n 0, 1), (67, .getfield 53, 3), (70, .iload_n 1, 1), (71, .aload_n 0, 1), (72, .invokevirtual 131, 3), (75, .iastore, 1), (76, .goto 102, 3), (79, .iload_n 2, 1), (80, .bipush 36, 2), (82, .if_icmp .ne 24, 3), (85, .aload_n 0, 1), (86, .getfield 50, 3), (89, .iload_n 1, 1), (90, .bipush 6, 2), (92, .iastore, 1), (93, .aload_n 0, 1), (94, .dup, 1), (95, .getfield 82, 3), (98, .iconst 1, 1), (99, .iadd, 1), (100, .putfield 82, 3), (103, .goto 75, 3), (106, .iload_n 2, 1), (107, .bipush 46, 2), (109, .if_icmp .ne 47, 3), (112, .aload_n 0, 1), (113, .dup, 1), (114, .getfield 82, 3), (117, .iconst 1, 1), (118, .iadd, 1), (119, .putfield 82, 3), (122, .aload_n 0, 1), (123, .getfield 50, 3), (126, .iload_n 1, 1), (127, .iconst 5, 1), (128, .iastore, 1), (129, .aload_n 0, 1), (130, .getfield 53, 3), (133, .iload_n 1, 1), (134, .aload_n 0, 1), (135, .aload_n 0, 1), (136, .getfield 56, 3), (139, .bipush 20, 2), (141, .iload_n 1, 1), (142, .imul, 1), (143, .invokevirtual 113, 3), (146, .iastore, 1), (147, .aload_n 0, 1), (148, .bipush 46, 2), (150, .invokevirtual 110, 3), (153, .goto 25, 3), (156, .iload_n 2, 1), (157, .bipush 40, 2), (159, .if_icmp .ne 11, 3), (162, .aload_n 0, 1), (163, .iload_n 1, 1), (164, .invokevirtual 140, 3), (167, .goto 11, 3), (170, .aload_n 0, 1), (171, .aload_n 0, 1), (172, .getfield 82, 3), (175, .invokevirtual 92, 3), (178, .return_, 1)])
theorem okX2_argument : mdOk mX2_argument := ⟨by decide +kernel, q2098, q70, by decide, by unfold mdDc; decide +kernel⟩
def mX2_beginsNumber : Md := (yX2_beginsNumber, cX2_beginsNumber, 1, (some Jvm.ClassFile.FieldType.boolean), none, 2, [(0, .iload_n 0, 1), (1, .bipush 45, 2), (3, .if_icmp .eq 10, 3), (6, .iload_n 0, 1), (7, .invokestatic 99, 3), (10, .ifCond .eq 7, 3), (13, .iconst 1, 1), (14, .goto 4, 3), (17, .iconst 0, 1), (18, .ireturn, 1)])
theorem okX2_beginsNumber : mdOk mX2_beginsNumber := ⟨by decide +kernel, q2101, q70, by decide, by unfold mdDc; decide +kernel⟩
def mX2_number : Md := (yX2_number, cX2_number, 4, (some Jvm.ClassFile.FieldType.int), none, 3, [(0, .aload_n 0, 1), (1, .invokevirtual 88, 3), (4, .bipush 45, 2), (6, .if_icmp .ne 7, 3), (9, .iconst 1, 1), (10, .goto 4, 3), (13, .iconst 0, 1), (14, .istore_n 1, 1), (15, .aload_n 0, 1), (16, .getfield 82, 3), (19, .istore_n 2, 1), (20, .iload_n 1, 1), (21, .ifCond .eq 13, 3), (24, .aload_n 0, 1), (25, .dup, 1), (26, .getfield 82, 3), (29, .iconst 1, 1), (30, .iadd, 1), (31, .putfield 82, 3), (34, .aload_n 0, 1), (35, .bipush 9, 2), (37, .iload_n 2, 1), (38, .invokevirtual 106, 3), (41, .istore_n 3, 1), (42, .iload_n 1, 1), (43, .ifCond .eq 8, 3), (46, .iload_n 3, 1), (47, .ineg, 1), (48, .goto 4, 3), (51, .iload_n 3, 1), (52, .ireturn, 1)])
theorem okX2_number : mdOk mX2_number := ⟨by decide +kernel, q2105, q70, by decide, by unfold mdDc; decide +kernel⟩
def mX2_writing : Md := (yX2_writing, cX2_writing, 8, none, none, 2, [(0, .aload_n 0, 1), (1, .getfield 82, 3), (4, .istore_n 2, 1), (5, .iconst 0, 1), (6, .istore_n 3, 1), (7, .aload_n 0, 1), (8, .getfield 82, 3), (11, .iconst 1, 1), (12, .iadd, 1), (13, .istore 4, 2), (15, .iconst 1, 1), (16, .istore 5, 2), (18, .iload 5, 2), (20, .ifCond .eq 167, 3), (23, .aload_n 0, 1), (24, .getfield 85, 3), (27, .iconst (-1), 1), (28, .if_icmp .ne 159, 3), (31, .iload 4, 2), (33, .aload_n 0, 1), (34, .getfield 79, 3), (37, .if_icmp .ge 19, 3), (40, .aload_n 0, 1), (41, .getfield 7, 3), (44, .iload 4, 2), (46, .iaload, 1), (47, .bipush 39, 2), (49, .if_icmp .ne 7, 3), (52, .iconst 1, 1), (53, .goto 4, 3), (56, .iconst 0, 1), (57, .istore 6, 2), (59, .iload 6, 2), (61, .ifCond .eq 32, 3), (64, .iload 4, 2), (66, .iconst 1, 1), (67, .iadd, 1), (68, .aload_n 0, 1), (69, .getfield 79, 3), (72, .if_icmp .ge 21, 3), (75, .aload_n 0, 1), (76, .getfield 7, 3), (79, .iload 4, 2), (81, .iconst 1, 1), (82, .iadd, 1), (83, .iaload, 1), (84, .bipush 39, 2), (86, .if_icmp .ne 7, 3), (89, .iconst 1, 1), (90, .goto 4, 3), (93, .iconst 0, 1), (94, .istore 7, 2), (96, .iload 4, 2), (98, .aload_n 0, 1), (99, .getfield 79, 3), (102, .if_icmp .ge 19, 3), (105, .iload_n 3, 1), (106, .bipush 20, 2), (108, .if_icmp .ne 21, 3), (111, .iload 6, 2), (113, .ifCond .eq 8, 3), (116, .iload 7, 2), (118, .ifCond .eq 11, 3), (121, .aload_n 0, 1), (122, .iload_n 2, 1), (123, .invokevirtual 92, 3), (126, .goto 58, 3), (129, .iload 6, 2), (131, .ifCond .eq 17, 3), (134, .iload 7, 2), (136, .ifCond .ne 12, 3), (139, .iconst 0, 1), (140, .istore 5, 2), (142, .iinc 4 1, 3), (145, .goto 39, 3), (148, .aload_n 0, 1), (149, .getfield 56, 3), (152, .bipush 20, 2), (154, .iload_n 1, 1), (155, .imul, 1), (156, .iload_n 3, 1), (157, .iadd, 1), (158, .aload_n 0, 1), (159, .getfield 7, 3), (162, .iload 4, 2), (164, .iaload, 1), (165, .iastore, 1), (166, .iinc 3 1, 3), (169, .iload 4, 2), (171, .iload 7, 2), (173, .ifCond .eq 7, 3), (176, .iconst 2, 1), (177, .goto 4, 3), (180, .iconst 1, 1), (181, .iadd, 1), (182, .istore 4, 2), (184, .goto (-166), 3), (187, .aload_n 0, 1), (188, .iload 4, 2), (190, .putfield 82, 3), (193, .aload_n 0, 1), (194, .getfield 50, 3), (197, .iload_n 1, 1), (198, .iconst 1, 1), (199, .iastore, 1), (200, .aload_n 0, 1), (201, .getfield 53, 3), (204, .iload_n 1, 1), (205, .iload_n 3, 1), (206, .iastore, 1), (207, .return_, 1)])
theorem okX2_writing : mdOk mX2_writing := ⟨by decide +kernel, q2109, q70, by decide, by unfold mdDc; decide +kernel⟩
def mX2_reference : Md := (yX2_reference, cX2_reference, 2, (some Jvm.ClassFile.FieldType.int), none, 3, [(0, .aload_n 0, 1), (1, .bipush 35, 2), (3, .invokevirtual 110, 3), (6, .aload_n 0, 1), (7, .iconst 3, 1), (8, .iconst (-1), 1), (9, .invokevirtual 106, 3), (12, .istore_n 1, 1), (13, .iload_n 1, 1), (14, .ifCond .ne 11, 3), (17, .aload_n 0, 1), (18, .aload_n 0, 1), (19, .getfield 96, 3), (22, .invokevirtual 92, 3), (25, .iload_n 1, 1), (26, .ireturn, 1)])
theorem okX2_reference : mdOk mX2_reference := ⟨by decide +kernel, q2113, q70, by decide, by unfold mdDc; decide +kernel⟩
def mX2_list : Md := (yX2_list, cX2_list, 6, none, none, 4, [(0, .aload_n 0, 1), (1, .bipush 40, 2), (3, .invokevirtual 110, 3), (6, .iconst 0, 1), (7, .istore_n 2, 1), (8, .aload_n 0, 1), (9, .invokevirtual 88, 3), (12, .istore_n 3, 1), (13, .aload_n 0, 1), (14, .getfield 50, 3), (17, .iload_n 1, 1), (18, .iload_n 3, 1), (19, .bipush 35, 2), (21, .if_icmp .ne 7, 3), (24, .iconst 4, 1), (25, .goto 4, 3), (28, .iconst 3, 1), (29, .iastore, 1), (30, .iload_n 3, 1), (31, .bipush 41, 2), (33, .if_icmp .eq 7, 3), (36, .iconst 1, 1), (37, .goto 4, 3), (40, .iconst 0, 1), (41, .istore 4, 2), (43, .iload 4, 2), (45, .ifCond .eq 145, 3), (48, .aload_n 0, 1), (49, .getfield 85, 3), (52, .iconst (-1), 1), (53, .if_icmp .ne 137, 3), (56, .aload_n 0, 1), (57, .invokevirtual 88, 3), (60, .istore_n 3, 1), (61, .aload_n 0, 1), (62, .getfield 50, 3), (65, .iload_n 1, 1), (66, .iaload, 1), (67, .iconst 4, 1), (68, .if_icmp .ne 17, 3), (71, .iload_n 3, 1), (72, .bipush 35, 2), (74, .if_icmp .ne 7, 3), (77, .iconst 1, 1), (78, .goto 11, 3), (81, .iconst 0, 1), (82, .goto 7, 3), (85, .iload_n 3, 1), (86, .invokestatic 128, 3), (89, .istore 5, 2), (91, .iload_n 2, 1), (92, .bipush 6, 2), (94, .if_icmp .eq 8, 3), (97, .iload 5, 2), (99, .ifCond .ne 14, 3), (102, .aload_n 0, 1), (103, .aload_n 0, 1), (104, .getfield 82, 3), (107, .invokevirtual 92, 3), (110, .goto 77, 3), (113, .aload_n 0, 1), (114, .getfield 56, 3), (117, .bipush 20, 2), (119, .iload_n 1, 1), (120, .imul, 1), (121, .iload_n 2, 1), (122, .iadd, 1), (123, .aload_n 0, 1), (124, .getfield 50, 3), (127, .iload_n 1, 1), (128, .iaload, 1), (129, .iconst 4, 1), (130, .if_icmp .ne 10, 3), (133, .aload_n 0, 1), (134, .invokevirtual 131, 3), (137, .goto 7, 3), (140, .aload_n 0, 1), (141, .invokevirtual 134, 3), (144, .iastore, 1), (145, .iinc 2 1, 3), (148, .aload_n 0, 1), (149, .getfield 85, 3), (152, .iconst (-1), 1), (153, .if_icmp .ne 16, 3), (156, .aload_n 0, 1), (157, .invokevirtual 88, 3), (160, .bipush 44, 2), (162, .if_icmp .ne 7, 3), (165, .iconst 1, 1), (166, .goto 4, 3), (169, .iconst 0, 1), (170, .istore 4, 2), (172, .iload 4, 2), (174, .ifCond .eq 13, 3), (177, .aload_n 0, 1), (178, .dup, 1), (179, .getfield 82, 3), (182, .iconst 1, 1), (183, .iadd, 1), (184, .putfield 82, 3), (187, .goto (-144), 3), (190, .aload_n 0, 1), (191, .bipush 41, 2), (193, .invokevirtual 110, 3), (196, .aload_n 0, 1), (197, .getfield 53, 3), (200, .iload_n 1, 1), (201, .iload_n 2, 1), (202, .iastore, 1), (203, .return_, 1)])
theorem okX2_list : mdOk mX2_list := ⟨by decide +kernel, q2117, q70, by decide, by unfold mdDc; decide +kernel⟩
def mX2_isMissing : Md := (yX2_isMissing, cX2_isMissing, 5, (some Jvm.ClassFile.FieldType.boolean), none, 2, [(0, .iconst 0, 1), (1, .istore_n 2, 1), (2, .bipush 8, 2), (4, .iload_n 1, 1), (5, .imul, 1), (6, .istore_n 3, 1), (7, .iload_n 3, 1), (8, .bipush 8, 2), (10, .iload_n 1, 1), (11, .imul, 1), (12, .aload_n 0, 1), (13, .getfield 47, 3), (16, .iload_n 1, 1), (17, .iaload, 1), (18, .iadd, 1), (19, .if_icmp .ge 105, 3), (22, .aload_n 0, 1), (23, .getfield 50, 3), (26, .iload_n 3, 1), (27, .iaload, 1), (28, .iconst 2, 1), (29, .if_icmp .ne 28, 3), (32, .iload_n 2, 1), (33, .ifCond .ne 18, 3), (36, .aload_n 0, 1), (37, .iconst 1, 1), (38, .aload_n 0, 1), (39, .getfield 53, 3), (42, .iload_n 3, 1), (43, .iaload, 1), (44, .invokevirtual 143, 3), (47, .iconst (-1), 1), (48, .if_icmp .ne 7, 3), (51, .iconst 1, 1), (52, .goto 4, 3), (55, .iconst 0, 1), (56, .istore_n 2, 1), (57, .iconst 0, 1), (58, .istore 4, 2), (60, .iload 4, 2), (62, .aload_n 0, 1), (63, .getfield 53, 3), (66, .iload_n 3, 1), (67, .iaload, 1), (68, .if_icmp .ge 50, 3), (71, .aload_n 0, 1), (72, .getfield 50, 3), (75, .iload_n 3, 1), (76, .iaload, 1), (77, .iconst 4, 1), (78, .if_icmp .ne 40, 3), (81, .iload_n 2, 1), (82, .ifCond .ne 24, 3), (85, .aload_n 0, 1), (86, .iconst 1, 1), (87, .aload_n 0, 1), (88, .getfield 56, 3), (91, .bipush 20, 2), (93, .iload_n 3, 1), (94, .imul, 1), (95, .iload 4, 2), (97, .iadd, 1), (98, .iaload, 1), (99, .invokevirtual 143, 3), (102, .iconst (-1), 1), (103, .if_icmp .ne 7, 3), (106, .iconst 1, 1), (107, .goto 4, 3), (110, .iconst 0, 1), (111, .istore_n 2, 1), (112, .iinc 4 1, 3), (115, .goto (-55), 3), (118, .iinc 3 1, 3), (121, .goto (-114), 3), (124, .iload_n 2, 1), (125, .ireturn, 1)])
theorem okX2_isMissing : mdOk mX2_isMissing := ⟨by decide +kernel, q2121, q70, by decide, by unfold mdDc; decide +kernel⟩
def mX2_copy : Md := (yX2_copy, cX2_copy, 4, none, none, 1, [(0, .aload_n 0, 1), (1, .getfield 38, 3), (4, .iload_n 1, 1), (5, .aload_n 0, 1), (6, .getfield 38, 3), (9, .iload_n 2, 1), (10, .iaload, 1), (11, .iastore, 1), (12, .aload_n 0, 1), (13, .getfield 41, 3), (16, .iload_n 1, 1), (17, .aload_n 0, 1), (18, .getfield 41, 3), (21, .iload_n 2, 1), (22, .iaload, 1), (23, .iastore, 1), (24, .aload_n 0, 1), (25, .getfield 47, 3), (28, .iload_n 1, 1), (29, .aload_n 0, 1), (30, .getfield 47, 3), (33, .iload_n 2, 1), (34, .iaload, 1), (35, .iastore, 1), (36, .iconst 0, 1), (37, .istore_n 3, 1), (38, .iload_n 3, 1), (39, .bipush 8, 2), (41, .if_icmp .ge 75, 3), (44, .aload_n 0, 1), (45, .getfield 44, 3), (48, .bipush 8, 2), (50, .iload_n 1, 1), (51, .imul, 1), (52, .iload_n 3, 1), (53, .iadd, 1), (54, .aload_n 0, 1), (55, .getfield 44, 3), (58, .bipush 8, 2), (60, .iload_n 2, 1), (61, .imul, 1), (62, .iload_n 3, 1), (63, .iadd, 1), (64, .iaload, 1), (65, .iastore, 1), (66, .aload_n 0, 1), (67, .getfield 50, 3), (70, .bipush 8, 2), (72, .iload_n 1, 1), (73, .imul, 1), (74, .iload_n 3, 1), (75, .iadd, 1), (76, .aload_n 0, 1), (77, .getfield 50, 3), (80, .bipush 8, 2), (82, .iload_n 2, 1), (83, .imul, 1), (84, .iload_n 3, 1), (85, .iadd, 1), (86, .iaload, 1), (87, .iastore, 1), (88, .aload_n 0, 1), (89, .getfield 53, 3), (92, .bipush 8, 2), (94, .iload_n 1, 1), (95, .imul, 1), (96, .iload_n 3, 1), (97, .iadd, 1), (98, .aload_n 0, 1), (99, .getfield 53, 3), (102, .bipush 8, 2), (104, .iload_n 2, 1), (105, .imul, 1), (106, .iload_n 3, 1), (107, .iadd, 1), (108, .iaload, 1), (109, .iastore, 1), (110, .iinc 3 1, 3), (113, .goto (-75), 3), (116, .iconst 0, 1), (117, .istore_n 3, 1), (118, .iload_n 3, 1), (119, .sipush 160, 3), (122, .if_icmp .ge 33, 3), (125, .aload_n 0, 1), (126, .getfield 56, 3), (129, .sipush 160, 3), (132, .iload_n 1, 1), (133, .imul, 1), (134, .iload_n 3, 1), (135, .iadd, 1), (136, .aload_n 0, 1), (137, .getfield 56, 3), (140, .sipush 160, 3), (143, .iload_n 2, 1), (144, .imul, 1), (145, .iload_n 3, 1), (146, .iadd, 1), (147, .iaload, 1), (148, .iastore, 1), (149, .iinc 3 1, 3), (152, .goto (-34), 3), (155, .return_, 1)])
theorem okX2_copy : mdOk mX2_copy := ⟨by decide +kernel, q2125, q70, by decide, by unfold mdDc; decide +kernel⟩
def mX2_write : Md := (yX2_write, cX2_write, 3, (some Jvm.ClassFile.FieldType.int), none, 4, [(0, .aload_n 0, 1), (1, .iconst 0, 1), (2, .putfield 69, 3), (5, .aload_n 0, 1), (6, .iconst 0, 1), (7, .putfield 159, 3), (10, .iconst 0, 1), (11, .istore_n 1, 1), (12, .iload_n 1, 1), (13, .aload_n 0, 1), (14, .getfield 35, 3), (17, .iconst 0, 1), (18, .iaload, 1), (19, .if_icmp .ge 120, 3), (22, .aload_n 0, 1), (23, .bipush 35, 2), (25, .invokevirtual 162, 3), (28, .aload_n 0, 1), (29, .aload_n 0, 1), (30, .getfield 38, 3), (33, .iload_n 1, 1), (34, .iaload, 1), (35, .invokevirtual 165, 3), (38, .aload_n 0, 1), (39, .bipush 61, 2), (41, .invokevirtual 162, 3), (44, .iconst 0, 1), (45, .istore_n 2, 1), (46, .iload_n 2, 1), (47, .aload_n 0, 1), (48, .getfield 41, 3), (51, .iload_n 1, 1), (52, .iaload, 1), (53, .if_icmp .ge 24, 3), (56, .aload_n 0, 1), (57, .aload_n 0, 1), (58, .getfield 44, 3), (61, .bipush 8, 2), (63, .iload_n 1, 1), (64, .imul, 1), (65, .iload_n 2, 1), (66, .iadd, 1), (67, .iaload, 1), (68, .invokevirtual 162, 3), (71, .iinc 2 1, 3), (74, .goto (-28), 3), (77, .aload_n 0, 1), (78, .bipush 40, 2), (80, .invokevirtual 162, 3), (83, .iconst 0, 1), (84, .istore_n 2, 1), (85, .iload_n 2, 1), (86, .aload_n 0, 1), (87, .getfield 47, 3), (90, .iload_n 1, 1), (91, .iaload, 1), (92, .if_icmp .ge 29, 3), (95, .iload_n 2, 1), (96, .ifCond .le 9, 3), (99, .aload_n 0, 1), (100, .bipush 44, 2), (102, .invokevirtual 162, 3), (105, .aload_n 0, 1), (106, .bipush 8, 2), (108, .iload_n 1, 1), (109, .imul, 1), (110, .iload_n 2, 1), (111, .iadd, 1), (112, .invokevirtual 168, 3), (115, .iinc 2 1, 3), (118, .goto (-33), 3), (121, .aload_n 0, 1), (122, .bipush 41, 2), (124, .invokevirtual 162, 3), (127, .aload_n 0, 1), (128, .bipush 59, 2), (130, .invokevirtual 162, 3), (133, .iinc 1 1, 3), (136, .goto (-124), 3), (139, .aload_n 0, 1), (140, .getfield 159, 3), (143, .sipush 1200, 3), (146, .if_icmp .le 6, 3), (149, .bipush (-2), 2), (151, .ireturn, 1), (152, .iconst 0, 1), (153, .istore_n 1, 1), (154, .iload_n 1, 1), (155, .aload_n 0, 1), (156, .getfield 159, 3), (159, .if_icmp .ge 21, 3), (162, .aload_n 0, 1), (163, .getfield 7, 3), (166, .iload_n 1, 1), (167, .aload_n 0, 1), (168, .getfield 13, 3), (171, .iload_n 1, 1), (172, .iaload, 1), (173, .iastore, 1), (174, .iinc 1 1, 3), (177, .goto (-23), 3), (180, .aload_n 0, 1), (181, .aload_n 0, 1), (182, .getfield 159, 3), (185, .putfield 79, 3), (188, .aload_n 0, 1), (189, .getfield 79, 3), (192, .ireturn, 1)])
theorem okX2_write : mdOk mX2_write := ⟨by decide +kernel, q2129, q70, by decide, by unfold mdDc; decide +kernel⟩
def mX2_put : Md := (yX2_put, cX2_put, 2, none, none, 1, [(0, .aload_n 0, 1), (1, .getfield 159, 3), (4, .sipush 1200, 3), (7, .if_icmp .ge 13, 3), (10, .aload_n 0, 1), (11, .getfield 13, 3), (14, .aload_n 0, 1), (15, .getfield 159, 3), (18, .iload_n 1, 1), (19, .iastore, 1), (20, .aload_n 0, 1), (21, .dup, 1), (22, .getfield 159, 3), (25, .iconst 1, 1), (26, .iadd, 1), (27, .putfield 159, 3), (30, .return_, 1)])
theorem okX2_put : mdOk mX2_put := ⟨by decide +kernel, q2133, q70, by decide, by unfold mdDc; decide +kernel⟩
def mX2_putNumber : Md := (yX2_putNumber, cX2_putNumber, 4, none, none, 2, [(0, .iload_n 1, 1), (1, .ifCond .ge 9, 3), (4, .aload_n 0, 1), (5, .bipush 45, 2), (7, .invokevirtual 162, 3), (10, .iload_n 1, 1), (11, .ifCond .ge 8, 3), (14, .iload_n 1, 1), (15, .ineg, 1), (16, .goto 4, 3), (19, .iload_n 1, 1), (20, .istore_n 2, 1), (21, .iconst 1, 1), (22, .istore_n 3, 1), (23, .iload_n 2, 1), (24, .iload_n 3, 1), (25, .idiv, 1), (26, .bipush 9, 2), (28, .if_icmp .le 11, 3), (31, .bipush 10, 2), (33, .iload_n 3, 1), (34, .imul, 1), (35, .istore_n 3, 1), (36, .goto (-13), 3), (39, .iload_n 3, 1), (40, .ifCond .le 24, 3), (43, .aload_n 0, 1), (44, .bipush 48, 2), (46, .iload_n 2, 1), (47, .iload_n 3, 1), (48, .idiv, 1), (49, .bipush 10, 2), (51, .irem, 1), (52, .iadd, 1), (53, .invokevirtual 162, 3), (56, .iload_n 3, 1), (57, .bipush 10, 2), (59, .idiv, 1), (60, .istore_n 3, 1), (61, .goto (-22), 3), (64, .return_, 1)])
theorem okX2_putNumber : mdOk mX2_putNumber := ⟨by decide +kernel, q2137, q70, by decide, by unfold mdDc; decide +kernel⟩
def mX2_putArgument : Md := (yX2_putArgument, cX2_putArgument, 4, none, none, 3, [(0, .aload_n 0, 1), (1, .getfield 50, 3), (4, .iload_n 1, 1), (5, .iaload, 1), (6, .tableswitch 192 0 6 #[42, 55, 116, 192, 192, 135, 183], 42), (48, .aload_n 0, 1), (49, .aload_n 0, 1), (50, .getfield 53, 3), (53, .iload_n 1, 1), (54, .iaload, 1), (55, .invokevirtual 165, 3), (58, .goto 211, 3), (61, .aload_n 0, 1), (62, .bipush 39, 2), (64, .invokevirtual 162, 3), (67, .iconst 0, 1), (68, .istore_n 2, 1), (69, .iload_n 2, 1), (70, .aload_n 0, 1), (71, .getfield 53, 3), (74, .iload_n 1, 1), (75, .iaload, 1), (76, .if_icmp .ge 37, 3), (79, .aload_n 0, 1), (80, .getfield 56, 3), (83, .bipush 20, 2), (85, .iload_n 1, 1), (86, .imul, 1), (87, .iload_n 2, 1), (88, .iadd, 1), (89, .iaload, 1), (90, .istore_n 3, 1), (91, .aload_n 0, 1), (92, .iload_n 3, 1), (93, .invokevirtual 162, 3), (96, .iload_n 3, 1), (97, .bipush 39, 2), (99, .if_icmp .ne 8, 3), (102, .aload_n 0, 1), (103, .iload_n 3, 1), (104, .invokevirtual 162, 3), (107, .iinc 2 1, 3), (110, .goto (-41), 3), (113, .aload_n 0, 1), (114, .bipush 39, 2), (116, .invokevirtual 162, 3), (119, .goto 150, 3), (122, .aload_n 0, 1), (123, .bipush 35, 2), (125, .invokevirtual 162, 3), (128, .aload_n 0, 1), (129, .aload_n 0, 1), (130, .getfield 53, 3), (133, .iload_n 1, 1), (134, .iaload, 1), (135, .invokevirtual 165, 3), (138, .goto 131, 3), (141, .aload_n 0, 1), (142, .bipush 46, 2), (144, .invokevirtual 162, 3), (147, .iconst 0, 1), (148, .istore_n 2, 1), (149, .iload_n 2, 1), (150, .aload_n 0, 1), (151, .getfield 53, 3), (154, .iload_n 1, 1), (155, .iaload, 1), (156, .if_icmp .ge 24, 3), (159, .aload_n 0, 1), (160, .aload_n 0, 1), (161, .getfield 56, 3), (164, .bipush 20, 2), (166, .iload_n 1, 1), (167, .imul, 1), (168, .iload_n 2, 1), (169, .iadd, 1), (170, .iaload, 1), (171, .invokevirtual 162, 3), (174, .iinc 2 1, 3), (177, .goto (-28), 3), (180, .aload_n 0, 1), (181, .bipush 46, 2), (183, .invokevirtual 162, 3), (186, .goto 83, 3), (189, .aload_n 0, 1), (190, .bipush 36, 2), (192, .invokevirtual 162, 3), (195, .goto 74, 3), (198, .aload_n 0, 1), (199, .bipush 40, 2), (201, .invokevirtual 162, 3), (204, .iconst 0, 1), (205, .istore_n 2, 1), (206, .iload_n 2, 1), (207, .aload_n 0, 1), (208, .getfield 53, 3), (211, .iload_n 1, 1), (212, .iaload, 1), (213, .if_icmp .ge 50, 3), (216, .iload_n 2, 1), (217, .ifCond .le 9, 3), (220, .aload_n 0, 1), (221, .bipush 44, 2), (223, .invokevirtual 162, 3), (226, .aload_n 0, 1), (227, .getfield 50, 3), (230, .iload_n 1, 1), (231, .iaload, 1), (232, .iconst 4, 1), (233, .if_icmp .ne 9, 3), (236, .aload_n 0, 1), (237, .bipush 35, 2), (239, .invokevirtual 162, 3), (242, .aload_n 0, 1), (243, .aload_n 0, 1), (244, .getfield 56, 3), (247, .bipush 20, 2), (249, .iload_n 1, 1), (250, .imul, 1), (251, .iload_n 2, 1), (252, .iadd, 1), (253, .iaload, 1), (254, .invokevirtual 165, 3), (257, .iinc 2 1, 3), (260, .goto (-54), 3), (263, .aload_n 0, 1), (264, .bipush 41, 2), (266, .invokevirtual 162, 3), (269, .return_, 1)])
theorem okX2_putArgument : mdOk mX2_putArgument := ⟨by decide +kernel, q2141, q70, by decide, by unfold mdDc; decide +kernel⟩
def mX2_keep : Md := (yX2_keep, cX2_keep, 2, (some Jvm.ClassFile.FieldType.int), none, 2, [(0, .aload_n 0, 1), (1, .iconst 0, 1), (2, .putfield 69, 3), (5, .aload_n 0, 1), (6, .getfield 35, 3), (9, .iconst 2, 1), (10, .aload_n 0, 1), (11, .getfield 35, 3), (14, .iconst 0, 1), (15, .iaload, 1), (16, .iastore, 1), (17, .iconst 0, 1), (18, .istore_n 1, 1), (19, .iload_n 1, 1), (20, .aload_n 0, 1), (21, .getfield 35, 3), (24, .iconst 0, 1), (25, .iaload, 1), (26, .if_icmp .ge 18, 3), (29, .aload_n 0, 1), (30, .bipush 80, 2), (32, .iload_n 1, 1), (33, .iadd, 1), (34, .iload_n 1, 1), (35, .invokevirtual 155, 3), (38, .iinc 1 1, 3), (41, .goto (-22), 3), (44, .aload_n 0, 1), (45, .getfield 35, 3), (48, .iconst 2, 1), (49, .iaload, 1), (50, .ireturn, 1)])
theorem okX2_keep : mdOk mX2_keep := ⟨by decide +kernel, q2145, q70, by decide, by unfold mdDc; decide +kernel⟩
def mX2_line : Md := (yX2_line, cX2_line, 2, (some Jvm.ClassFile.FieldType.int), none, 2, [(0, .aload_n 0, 1), (1, .iconst 0, 1), (2, .putfield 69, 3), (5, .aload_n 0, 1), (6, .iload_n 1, 1), (7, .ifCond .ge 7, 3), (10, .iconst 1, 1), (11, .goto 4, 3), (14, .iconst 0, 1), (15, .iconst 1, 1), (16, .invokevirtual 75, 3), (19, .ifCond .eq 5, 3), (22, .iconst 0, 1), (23, .ireturn, 1), (24, .iload_n 1, 1), (25, .aload_n 0, 1), (26, .getfield 35, 3), (29, .iconst 0, 1), (30, .iaload, 1), (31, .if_icmp .ge 12, 3), (34, .aload_n 0, 1), (35, .getfield 38, 3), (38, .iload_n 1, 1), (39, .iaload, 1), (40, .goto 4, 3), (43, .iconst (-1), 1), (44, .ireturn, 1)])
theorem okX2_line : mdOk mX2_line := ⟨by decide +kernel, q2149, q70, by decide, by unfold mdDc; decide +kernel⟩
def mX2_told : Md := (yX2_told, cX2_told, 4, (some Jvm.ClassFile.FieldType.int), none, 5, [(0, .aload_n 0, 1), (1, .iconst 0, 1), (2, .putfield 69, 3), (5, .aload_n 0, 1), (6, .iconst 0, 1), (7, .iload_n 1, 1), (8, .invokevirtual 143, 3), (11, .istore_n 3, 1), (12, .aload_n 0, 1), (13, .iload_n 3, 1), (14, .iconst (-1), 1), (15, .if_icmp .eq 12, 3), (18, .iload_n 2, 1), (19, .ifCond .lt 8, 3), (22, .iload_n 2, 1), (23, .iconst 3, 1), (24, .if_icmp .le 7, 3), (27, .iconst 1, 1), (28, .goto 4, 3), (31, .iconst 0, 1), (32, .iconst 1, 1), (33, .invokevirtual 75, 3), (36, .ifCond .eq 5, 3), (39, .iconst 0, 1), (40, .ireturn, 1), (41, .aload_n 0, 1), (42, .invokevirtual 180, 3), (45, .iload_n 2, 1), (46, .ifCond .ne 11, 3), (49, .aload_n 0, 1), (50, .iload_n 3, 1), (51, .invokevirtual 183, 3), (54, .goto 36, 3), (57, .iload_n 2, 1), (58, .iconst 1, 1), (59, .if_icmp .ne 12, 3), (62, .aload_n 0, 1), (63, .getfield 47, 3), (66, .iload_n 3, 1), (67, .iaload, 1), (68, .goto 22, 3), (71, .iload_n 2, 1), (72, .iconst 2, 1), (73, .if_icmp .ne 11, 3), (76, .aload_n 0, 1), (77, .iload_n 3, 1), (78, .invokevirtual 186, 3), (81, .goto 9, 3), (84, .aload_n 0, 1), (85, .getfield 59, 3), (88, .iload_n 3, 1), (89, .iaload, 1), (90, .ireturn, 1)])
theorem okX2_told : mdOk mX2_told := ⟨by decide +kernel, q2153, q70, by decide, by unfold mdDc; decide +kernel⟩
def mX2_findDepths : Md := (yX2_findDepths, cX2_findDepths, 6, none, none, 4, [(0, .aload_n 0, 1), (1, .invokevirtual 177, 3), (4, .iconst 0, 1), (5, .istore_n 1, 1), (6, .iload_n 1, 1), (7, .bipush 40, 2), (9, .if_icmp .ge 16, 3), (12, .aload_n 0, 1), (13, .getfield 59, 3), (16, .iload_n 1, 1), (17, .iconst (-1), 1), (18, .iastore, 1), (19, .iinc 1 1, 3), (22, .goto (-16), 3), (25, .iconst 1, 1), (26, .istore_n 1, 1), (27, .iload_n 1, 1), (28, .ifCond .eq 147, 3), (31, .iconst 0, 1), (32, .istore_n 1, 1), (33, .iconst 0, 1), (34, .istore_n 2, 1), (35, .iload_n 2, 1), (36, .aload_n 0, 1), (37, .getfield 35, 3), (40, .iconst 0, 1), (41, .iaload, 1), (42, .if_icmp .ge 130, 3), (45, .aload_n 0, 1), (46, .getfield 59, 3), (49, .iload_n 2, 1), (50, .iaload, 1), (51, .iconst (-1), 1), (52, .if_icmp .eq 6, 3), (55, .goto 111, 3), (58, .iconst 0, 1), (59, .istore_n 3, 1), (60, .iconst 1, 1), (61, .istore 4, 2), (63, .iconst 0, 1), (64, .istore 5, 2), (66, .iload 5, 2), (68, .aload_n 0, 1), (69, .getfield 35, 3), (72, .iconst 0, 1), (73, .iaload, 1), (74, .if_icmp .ge 78, 3), (77, .aload_n 0, 1), (78, .getfield 65, 3), (81, .iload_n 2, 1), (82, .laload, 1), (83, .iload 5, 2), (85, .lshr, 1), (86, .lconst 1, 1), (87, .land, 1), (88, .lconst 0, 1), (89, .lcmp, 1), (90, .ifCond .ne 6, 3), (93, .goto 53, 3), (96, .iload 4, 2), (98, .ifCond .eq 18, 3), (101, .aload_n 0, 1), (102, .getfield 59, 3), (105, .iload 5, 2), (107, .iaload, 1), (108, .iconst (-1), 1), (109, .if_icmp .eq 7, 3), (112, .iconst 1, 1), (113, .goto 4, 3), (116, .iconst 0, 1), (117, .istore 4, 2), (119, .aload_n 0, 1), (120, .getfield 59, 3), (123, .iload 5, 2), (125, .iaload, 1), (126, .iconst 1, 1), (127, .iadd, 1), (128, .iload_n 3, 1), (129, .if_icmp .le 15, 3), (132, .aload_n 0, 1), (133, .getfield 59, 3), (136, .iload 5, 2), (138, .iaload, 1), (139, .iconst 1, 1), (140, .iadd, 1), (141, .goto 4, 3), (144, .iload_n 3, 1), (145, .istore_n 3, 1), (146, .iinc 5 1, 3), (149, .goto (-83), 3), (152, .iload 4, 2), (154, .ifCond .eq 12, 3), (157, .aload_n 0, 1), (158, .getfield 59, 3), (161, .iload_n 2, 1), (162, .iload_n 3, 1), (163, .iastore, 1), (164, .iconst 1, 1), (165, .istore_n 1, 1), (166, .iinc 2 1, 3), (169, .goto (-134), 3), (172, .goto (-145), 3), (175, .return_, 1)])
theorem okX2_findDepths : mdOk mX2_findDepths := ⟨by decide +kernel, q2157, q70, by decide, by unfold mdDc; decide +kernel⟩
def mX2_findWays : Md := (yX2_findWays, cX2_findWays, 4, none, none, 3, [(0, .iconst 0, 1), (1, .istore_n 1, 1), (2, .iload_n 1, 1), (3, .aload_n 0, 1), (4, .getfield 35, 3), (7, .iconst 0, 1), (8, .iaload, 1), (9, .if_icmp .ge 76, 3), (12, .aload_n 0, 1), (13, .getfield 65, 3), (16, .iload_n 1, 1), (17, .lconst 0, 1), (18, .lastore, 1), (19, .bipush 8, 2), (21, .iload_n 1, 1), (22, .imul, 1), (23, .istore_n 2, 1), (24, .iload_n 2, 1), (25, .bipush 8, 2), (27, .iload_n 1, 1), (28, .imul, 1), (29, .aload_n 0, 1), (30, .getfield 47, 3), (33, .iload_n 1, 1), (34, .iaload, 1), (35, .iadd, 1), (36, .if_icmp .ge 43, 3), (39, .iconst 0, 1), (40, .istore_n 3, 1), (41, .iload_n 3, 1), (42, .aload_n 0, 1), (43, .iload_n 2, 1), (44, .invokevirtual 171, 3), (47, .if_icmp .ge 26, 3), (50, .aload_n 0, 1), (51, .getfield 65, 3), (54, .iload_n 1, 1), (55, .dup2, 1), (56, .laload, 1), (57, .lconst 1, 1), (58, .aload_n 0, 1), (59, .iload_n 2, 1), (60, .iload_n 3, 1), (61, .invokevirtual 174, 3), (64, .lshl, 1), (65, .lor, 1), (66, .lastore, 1), (67, .iinc 3 1, 3), (70, .goto (-29), 3), (73, .iinc 2 1, 3), (76, .goto (-52), 3), (79, .iinc 1 1, 3), (82, .goto (-80), 3), (85, .return_, 1)])
theorem okX2_findWays : mdOk mX2_findWays := ⟨by decide +kernel, q2161, q70, by decide, by unfold mdDc; decide +kernel⟩
def mX2_references : Md := (yX2_references, cX2_references, 2, (some Jvm.ClassFile.FieldType.int), none, 1, [(0, .aload_n 0, 1), (1, .getfield 50, 3), (4, .iload_n 1, 1), (5, .iaload, 1), (6, .iconst 2, 1), (7, .if_icmp .ne 7, 3), (10, .iconst 1, 1), (11, .goto 23, 3), (14, .aload_n 0, 1), (15, .getfield 50, 3), (18, .iload_n 1, 1), (19, .iaload, 1), (20, .iconst 4, 1), (21, .if_icmp .ne 12, 3), (24, .aload_n 0, 1), (25, .getfield 53, 3), (28, .iload_n 1, 1), (29, .iaload, 1), (30, .goto 4, 3), (33, .iconst 0, 1), (34, .ireturn, 1)])
theorem okX2_references : mdOk mX2_references := ⟨by decide +kernel, q2165, q70, by decide, by unfold mdDc; decide +kernel⟩
def mX2_referred : Md := (yX2_referred, cX2_referred, 3, (some Jvm.ClassFile.FieldType.int), none, 2, [(0, .aload_n 0, 1), (1, .iconst 0, 1), (2, .aload_n 0, 1), (3, .getfield 50, 3), (6, .iload_n 1, 1), (7, .iaload, 1), (8, .iconst 2, 1), (9, .if_icmp .ne 12, 3), (12, .aload_n 0, 1), (13, .getfield 53, 3), (16, .iload_n 1, 1), (17, .iaload, 1), (18, .goto 14, 3), (21, .aload_n 0, 1), (22, .getfield 56, 3), (25, .bipush 20, 2), (27, .iload_n 1, 1), (28, .imul, 1), (29, .iload_n 2, 1), (30, .iadd, 1), (31, .iaload, 1), (32, .invokevirtual 143, 3), (35, .ireturn, 1)])
theorem okX2_referred : mdOk mX2_referred := ⟨by decide +kernel, q2169, q70, by decide, by unfold mdDc; decide +kernel⟩
def mX2_kindOf : Md := (yX2_kindOf, cX2_kindOf, 3, (some Jvm.ClassFile.FieldType.int), none, 2, [(0, .iconst 0, 1), (1, .istore_n 2, 1), (2, .iload_n 2, 1), (3, .aload_n 0, 1), (4, .getfield 16, 3), (7, .iconst 0, 1), (8, .iaload, 1), (9, .if_icmp .ge 54, 3), (12, .aload_n 0, 1), (13, .getfield 19, 3), (16, .iload_n 2, 1), (17, .iaload, 1), (18, .aload_n 0, 1), (19, .getfield 41, 3), (22, .iload_n 1, 1), (23, .iaload, 1), (24, .if_icmp .ne 33, 3), (27, .aload_n 0, 1), (28, .getfield 22, 3), (31, .bipush 8, 2), (33, .iload_n 2, 1), (34, .imul, 1), (35, .aload_n 0, 1), (36, .getfield 44, 3), (39, .bipush 8, 2), (41, .iload_n 1, 1), (42, .imul, 1), (43, .aload_n 0, 1), (44, .getfield 41, 3), (47, .iload_n 1, 1), (48, .iaload, 1), (49, .invokestatic 117, 3), (52, .ifCond .eq 5, 3), (55, .iload_n 2, 1), (56, .ireturn, 1), (57, .iinc 2 1, 3), (60, .goto (-58), 3), (63, .iconst (-1), 1), (64, .ireturn, 1)])
theorem okX2_kindOf : mdOk mX2_kindOf := ⟨by decide +kernel, q2173, q70, by decide, by unfold mdDc; decide +kernel⟩
def mX2_referencesOf : Md := (yX2_referencesOf, cX2_referencesOf, 4, (some Jvm.ClassFile.FieldType.int), none, 2, [(0, .iconst 0, 1), (1, .istore_n 2, 1), (2, .bipush 8, 2), (4, .iload_n 1, 1), (5, .imul, 1), (6, .istore_n 3, 1), (7, .iload_n 3, 1), (8, .bipush 8, 2), (10, .iload_n 1, 1), (11, .imul, 1), (12, .aload_n 0, 1), (13, .getfield 47, 3), (16, .iload_n 1, 1), (17, .iaload, 1), (18, .iadd, 1), (19, .if_icmp .ge 17, 3), (22, .iload_n 2, 1), (23, .aload_n 0, 1), (24, .iload_n 3, 1), (25, .invokevirtual 171, 3), (28, .iadd, 1), (29, .istore_n 2, 1), (30, .iinc 3 1, 3), (33, .goto (-26), 3), (36, .iload_n 2, 1), (37, .ireturn, 1)])
theorem okX2_referencesOf : mdOk mX2_referencesOf := ⟨by decide +kernel, q2177, q70, by decide, by unfold mdDc; decide +kernel⟩
def mX2_argument_2 : Md := (yX2_argument_2, cX2_argument_2, 5, (some Jvm.ClassFile.FieldType.int), none, 3, [(0, .aload_n 0, 1), (1, .iconst 0, 1), (2, .putfield 69, 3), (5, .aload_n 0, 1), (6, .iload_n 1, 1), (7, .iload_n 2, 1), (8, .invokevirtual 189, 3), (11, .istore 4, 2), (13, .aload_n 0, 1), (14, .iload 4, 2), (16, .iconst (-1), 1), (17, .if_icmp .eq 12, 3), (20, .iload_n 3, 1), (21, .ifCond .lt 8, 3), (24, .iload_n 3, 1), (25, .iconst 1, 1), (26, .if_icmp .le 7, 3), (29, .iconst 1, 1), (30, .goto 4, 3), (33, .iconst 0, 1), (34, .iconst 1, 1), (35, .invokevirtual 75, 3), (38, .ifCond .eq 5, 3), (41, .iconst 0, 1), (42, .ireturn, 1), (43, .iload_n 3, 1), (44, .ifCond .ne 13, 3), (47, .aload_n 0, 1), (48, .getfield 50, 3), (51, .iload 4, 2), (53, .iaload, 1), (54, .goto 10, 3), (57, .aload_n 0, 1), (58, .getfield 53, 3), (61, .iload 4, 2), (63, .iaload, 1), (64, .ireturn, 1)])
theorem okX2_argument_2 : mdOk mX2_argument_2 := ⟨by decide +kernel, q2181, q70, by decide, by unfold mdDc; decide +kernel⟩
def mX2_argumentAt : Md := (yX2_argumentAt, cX2_argumentAt, 4, (some Jvm.ClassFile.FieldType.int), none, 2, [(0, .aload_n 0, 1), (1, .iconst 0, 1), (2, .iload_n 1, 1), (3, .invokevirtual 143, 3), (6, .istore_n 3, 1), (7, .iload_n 3, 1), (8, .iconst (-1), 1), (9, .if_icmp .eq 17, 3), (12, .iload_n 2, 1), (13, .ifCond .lt 13, 3), (16, .iload_n 2, 1), (17, .aload_n 0, 1), (18, .getfield 47, 3), (21, .iload_n 3, 1), (22, .iaload, 1), (23, .if_icmp .lt 7, 3), (26, .iconst (-1), 1), (27, .goto 9, 3), (30, .bipush 8, 2), (32, .iload_n 3, 1), (33, .imul, 1), (34, .iload_n 2, 1), (35, .iadd, 1), (36, .ireturn, 1)])
theorem okX2_argumentAt : mdOk mX2_argumentAt := ⟨by decide +kernel, q2185, q70, by decide, by unfold mdDc; decide +kernel⟩
def mX2_item : Md := (yX2_item, cX2_item, 6, (some Jvm.ClassFile.FieldType.int), none, 3, [(0, .aload_n 0, 1), (1, .iconst 0, 1), (2, .putfield 69, 3), (5, .aload_n 0, 1), (6, .iload_n 1, 1), (7, .iload_n 2, 1), (8, .invokevirtual 189, 3), (11, .istore 4, 2), (13, .iload 4, 2), (15, .iconst (-1), 1), (16, .if_icmp .eq 40, 3), (19, .aload_n 0, 1), (20, .getfield 50, 3), (23, .iload 4, 2), (25, .iaload, 1), (26, .ifCond .eq 30, 3), (29, .aload_n 0, 1), (30, .getfield 50, 3), (33, .iload 4, 2), (35, .iaload, 1), (36, .iconst 2, 1), (37, .if_icmp .eq 19, 3), (40, .aload_n 0, 1), (41, .getfield 50, 3), (44, .iload 4, 2), (46, .iaload, 1), (47, .bipush 6, 2), (49, .if_icmp .eq 7, 3), (52, .iconst 1, 1), (53, .goto 4, 3), (56, .iconst 0, 1), (57, .istore 5, 2), (59, .aload_n 0, 1), (60, .iload 5, 2), (62, .ifCond .eq 18, 3), (65, .iload_n 3, 1), (66, .ifCond .lt 14, 3), (69, .iload_n 3, 1), (70, .aload_n 0, 1), (71, .getfield 53, 3), (74, .iload 4, 2), (76, .iaload, 1), (77, .if_icmp .lt 7, 3), (80, .iconst 1, 1), (81, .goto 4, 3), (84, .iconst 0, 1), (85, .iconst 1, 1), (86, .invokevirtual 75, 3), (89, .ifCond .eq 5, 3), (92, .iconst 0, 1), (93, .ireturn, 1), (94, .aload_n 0, 1), (95, .getfield 56, 3), (98, .bipush 20, 2), (100, .iload 4, 2), (102, .imul, 1), (103, .iload_n 3, 1), (104, .iadd, 1), (105, .iaload, 1), (106, .ireturn, 1)])
theorem okX2_item : mdOk mX2_item := ⟨by decide +kernel, q2189, q70, by decide, by unfold mdDc; decide +kernel⟩
def mX2_set : Md := (yX2_set, cX2_set, 6, (some Jvm.ClassFile.FieldType.int), none, 3, [(0, .aload_n 0, 1), (1, .iconst 0, 1), (2, .putfield 69, 3), (5, .aload_n 0, 1), (6, .iload_n 1, 1), (7, .iload_n 2, 1), (8, .invokevirtual 189, 3), (11, .istore 4, 2), (13, .aload_n 0, 1), (14, .iload 4, 2), (16, .iconst (-1), 1), (17, .if_icmp .eq 25, 3), (20, .aload_n 0, 1), (21, .getfield 50, 3), (24, .iload 4, 2), (26, .iaload, 1), (27, .ifCond .ne 15, 3), (30, .iload_n 3, 1), (31, .ldc 192, 2), (33, .if_icmp .lt 9, 3), (36, .iload_n 3, 1), (37, .ldc 193, 2), (39, .if_icmp .le 7, 3), (42, .iconst 1, 1), (43, .goto 4, 3), (46, .iconst 0, 1), (47, .iconst 1, 1), (48, .invokevirtual 75, 3), (51, .ifCond .eq 5, 3), (54, .iconst 0, 1), (55, .ireturn, 1), (56, .aload_n 0, 1), (57, .getfield 53, 3), (60, .iload 4, 2), (62, .iaload, 1), (63, .istore 5, 2), (65, .aload_n 0, 1), (66, .getfield 53, 3), (69, .iload 4, 2), (71, .iload_n 3, 1), (72, .iastore, 1), (73, .iload 5, 2), (75, .ireturn, 1)])
theorem okX2_set : mdOk mX2_set := ⟨by decide +kernel, q2193, q70, by decide, by unfold mdDc; decide +kernel⟩
def mX2_wrong : Md := (yX2_wrong, cX2_wrong, 8, (some Jvm.ClassFile.FieldType.int), none, 3, [(0, .aload_n 0, 1), (1, .iconst 0, 1), (2, .putfield 69, 3), (5, .aload_n 0, 1), (6, .iload_n 1, 1), (7, .ifCond .lt 12, 3), (10, .iload_n 2, 1), (11, .ifCond .lt 8, 3), (14, .iload_n 2, 1), (15, .iconst 2, 1), (16, .if_icmp .le 7, 3), (19, .iconst 1, 1), (20, .goto 4, 3), (23, .iconst 0, 1), (24, .iconst 1, 1), (25, .invokevirtual 75, 3), (28, .ifCond .eq 5, 3), (31, .iconst 0, 1), (32, .ireturn, 1), (33, .iload_n 1, 1), (34, .istore_n 3, 1), (35, .iconst 0, 1), (36, .istore 4, 2), (38, .iload 4, 2), (40, .aload_n 0, 1), (41, .getfield 35, 3), (44, .iconst 0, 1), (45, .iaload, 1), (46, .if_icmp .ge 126, 3), (49, .aload_n 0, 1), (50, .iload 4, 2), (52, .invokevirtual 183, 3), (55, .istore 5, 2), (57, .iload 5, 2), (59, .iconst (-1), 1), (60, .if_icmp .ne 7, 3), (63, .iconst 1, 1), (64, .goto 25, 3), (67, .aload_n 0, 1), (68, .getfield 25, 3), (71, .iload 5, 2), (73, .iaload, 1), (74, .aload_n 0, 1), (75, .getfield 47, 3), (78, .iload 4, 2), (80, .iaload, 1), (81, .if_icmp .eq 7, 3), (84, .iconst 2, 1), (85, .goto 4, 3), (88, .iconst 0, 1), (89, .istore 6, 2), (91, .iload 6, 2), (93, .ifCond .ne 14, 3), (96, .aload_n 0, 1), (97, .iload 4, 2), (99, .iload 5, 2), (101, .invokevirtual 194, 3), (104, .goto 4, 3), (107, .iconst (-1), 1), (108, .istore 7, 2), (110, .iload 7, 2), (112, .iconst (-1), 1), (113, .if_icmp .eq 7, 3), (116, .iconst 3, 1), (117, .goto 5, 3), (120, .iload 6, 2), (122, .istore 6, 2), (124, .iload 6, 2), (126, .ifCond .ne 6, 3), (129, .goto 37, 3), (132, .iload_n 3, 1), (133, .ifCond .ne 30, 3), (136, .iload_n 2, 1), (137, .ifCond .ne 13, 3), (140, .aload_n 0, 1), (141, .getfield 38, 3), (144, .iload 4, 2), (146, .iaload, 1), (147, .goto 15, 3), (150, .iload_n 2, 1), (151, .iconst 1, 1), (152, .if_icmp .ne 8, 3), (155, .iload 6, 2), (157, .goto 5, 3), (160, .iload 7, 2), (162, .ireturn, 1), (163, .iinc 3 (-1), 3), (166, .iinc 4 1, 3), (169, .goto (-131), 3), (172, .iconst (-1), 1), (173, .ireturn, 1)])
theorem okX2_wrong : mdOk mX2_wrong := ⟨by decide +kernel, q2199, q70, by decide, by unfold mdDc; decide +kernel⟩
def mX2_firstWrong : Md := (yX2_firstWrong, cX2_firstWrong, 8, (some Jvm.ClassFile.FieldType.int), none, 1, [(0, .iconst 0, 1), (1, .istore_n 3, 1), (2, .iload_n 3, 1), (3, .aload_n 0, 1), (4, .getfield 47, 3), (7, .iload_n 1, 1), (8, .iaload, 1), (9, .if_icmp .ge 121, 3), (12, .bipush 8, 2), (14, .iload_n 1, 1), (15, .imul, 1), (16, .iload_n 3, 1), (17, .iadd, 1), (18, .istore 4, 2), (20, .aload_n 0, 1), (21, .getfield 28, 3), (24, .bipush 8, 2), (26, .iload_n 2, 1), (27, .imul, 1), (28, .iload_n 3, 1), (29, .iadd, 1), (30, .iaload, 1), (31, .istore 5, 2), (33, .iload 5, 2), (35, .iconst 4, 1), (36, .if_icmp .ne 28, 3), (39, .aload_n 0, 1), (40, .getfield 50, 3), (43, .iload 4, 2), (45, .iaload, 1), (46, .iconst 3, 1), (47, .if_icmp .ne 17, 3), (50, .aload_n 0, 1), (51, .getfield 53, 3), (54, .iload 4, 2), (56, .iaload, 1), (57, .ifCond .ne 7, 3), (60, .iconst 1, 1), (61, .goto 4, 3), (64, .iconst 0, 1), (65, .istore 6, 2), (67, .aload_n 0, 1), (68, .getfield 50, 3), (71, .iload 4, 2), (73, .iaload, 1), (74, .bipush 6, 2), (76, .if_icmp .ne 21, 3), (79, .aload_n 0, 1), (80, .getfield 31, 3), (83, .bipush 8, 2), (85, .iload_n 2, 1), (86, .imul, 1), (87, .iload_n 3, 1), (88, .iadd, 1), (89, .baload, 1), (90, .ifCond .eq 7, 3), (93, .iconst 1, 1), (94, .goto 4, 3), (97, .iconst 0, 1), (98, .istore 7, 2), (100, .aload_n 0, 1), (101, .getfield 50, 3), (104, .iload 4, 2), (106, .iaload, 1), (107, .iload 5, 2), (109, .if_icmp .eq 15, 3), (112, .iload 6, 2), (114, .ifCond .ne 10, 3), (117, .iload 7, 2), (119, .ifCond .ne 5, 3), (122, .iload_n 3, 1), (123, .ireturn, 1), (124, .iinc 3 1, 3), (127, .goto (-125), 3), (130, .iconst (-1), 1), (131, .ireturn, 1)])
theorem okX2_firstWrong : mdOk mX2_firstWrong := ⟨by decide +kernel, q2203, q70, by decide, by unfold mdDc; decide +kernel⟩
def mX2_from : Md := (yX2_from, cX2_from, 6, (some Jvm.ClassFile.FieldType.int), none, 4, [(0, .aload_n 0, 1), (1, .iconst 0, 1), (2, .putfield 69, 3), (5, .aload_n 0, 1), (6, .iconst 0, 1), (7, .iload_n 1, 1), (8, .invokevirtual 143, 3), (11, .istore_n 3, 1), (12, .aload_n 0, 1), (13, .iload_n 3, 1), (14, .iconst (-1), 1), (15, .if_icmp .eq 7, 3), (18, .iload_n 2, 1), (19, .ifCond .ge 7, 3), (22, .iconst 1, 1), (23, .goto 4, 3), (26, .iconst 0, 1), (27, .iconst 1, 1), (28, .invokevirtual 75, 3), (31, .ifCond .eq 5, 3), (34, .iconst 0, 1), (35, .ireturn, 1), (36, .aload_n 0, 1), (37, .invokevirtual 177, 3), (40, .iload_n 2, 1), (41, .istore 4, 2), (43, .iconst 0, 1), (44, .istore 5, 2), (46, .iload 5, 2), (48, .aload_n 0, 1), (49, .getfield 35, 3), (52, .iconst 0, 1), (53, .iaload, 1), (54, .if_icmp .ge 44, 3), (57, .aload_n 0, 1), (58, .getfield 65, 3), (61, .iload 5, 2), (63, .laload, 1), (64, .iload_n 3, 1), (65, .lshr, 1), (66, .lconst 1, 1), (67, .land, 1), (68, .lconst 0, 1), (69, .lcmp, 1), (70, .ifCond .ne 6, 3), (73, .goto 19, 3), (76, .iload 4, 2), (78, .ifCond .ne 11, 3), (81, .aload_n 0, 1), (82, .getfield 38, 3), (85, .iload 5, 2), (87, .iaload, 1), (88, .ireturn, 1), (89, .iinc 4 (-1), 3), (92, .iinc 5 1, 3), (95, .goto (-49), 3), (98, .iconst (-1), 1), (99, .ireturn, 1)])
theorem okX2_from : mdOk mX2_from := ⟨by decide +kernel, q2207, q70, by decide, by unfold mdDc; decide +kernel⟩
def mX2_ring : Md := (yX2_ring, cX2_ring, 4, (some Jvm.ClassFile.FieldType.int), none, 5, [(0, .aload_n 0, 1), (1, .iconst 0, 1), (2, .putfield 69, 3), (5, .aload_n 0, 1), (6, .iload_n 1, 1), (7, .ifCond .ge 7, 3), (10, .iconst 1, 1), (11, .goto 4, 3), (14, .iconst 0, 1), (15, .iconst 1, 1), (16, .invokevirtual 75, 3), (19, .ifCond .eq 5, 3), (22, .iconst 0, 1), (23, .ireturn, 1), (24, .aload_n 0, 1), (25, .invokevirtual 180, 3), (28, .iload_n 1, 1), (29, .istore_n 2, 1), (30, .iconst 0, 1), (31, .istore_n 3, 1), (32, .iload_n 3, 1), (33, .aload_n 0, 1), (34, .getfield 35, 3), (37, .iconst 0, 1), (38, .iaload, 1), (39, .if_icmp .ge 44, 3), (42, .aload_n 0, 1), (43, .getfield 59, 3), (46, .iload_n 3, 1), (47, .iaload, 1), (48, .iconst (-1), 1), (49, .if_icmp .ne 28, 3), (52, .aload_n 0, 1), (53, .iload_n 3, 1), (54, .invokevirtual 197, 3), (57, .ifCond .ne 6, 3), (60, .goto 17, 3), (63, .iload_n 2, 1), (64, .ifCond .ne 10, 3), (67, .aload_n 0, 1), (68, .getfield 38, 3), (71, .iload_n 3, 1), (72, .iaload, 1), (73, .ireturn, 1), (74, .iinc 2 (-1), 3), (77, .iinc 3 1, 3), (80, .goto (-48), 3), (83, .iconst (-1), 1), (84, .ireturn, 1)])
theorem okX2_ring : mdOk mX2_ring := ⟨by decide +kernel, q2211, q70, by decide, by unfold mdDc; decide +kernel⟩
def mX2_isOnRing : Md := (yX2_isOnRing, cX2_isOnRing, 7, (some Jvm.ClassFile.FieldType.boolean), none, 1, [(0, .aload_n 0, 1), (1, .getfield 65, 3), (4, .iload_n 1, 1), (5, .laload, 1), (6, .lstore_n 2, 1), (7, .lconst 0, 1), (8, .lstore 4, 2), (10, .lload_n 2, 1), (11, .lload 4, 2), (13, .lcmp, 1), (14, .ifCond .eq 50, 3), (17, .lload_n 2, 1), (18, .lstore 4, 2), (20, .iconst 0, 1), (21, .istore 6, 2), (23, .iload 6, 2), (25, .aload_n 0, 1), (26, .getfield 35, 3), (29, .iconst 0, 1), (30, .iaload, 1), (31, .if_icmp .ge 30, 3), (34, .lload_n 2, 1), (35, .iload 6, 2), (37, .lshr, 1), (38, .lconst 1, 1), (39, .land, 1), (40, .lconst 1, 1), (41, .lcmp, 1), (42, .ifCond .ne 13, 3), (45, .lload_n 2, 1), (46, .aload_n 0, 1), (47, .getfield 65, 3), (50, .iload 6, 2), (52, .laload, 1), (53, .lor, 1), (54, .lstore_n 2, 1), (55, .iinc 6 1, 3), (58, .goto (-35), 3), (61, .goto (-51), 3), (64, .lload_n 2, 1), (65, .iload_n 1, 1), (66, .lshr, 1), (67, .lconst 1, 1), (68, .land, 1), (69, .lconst 1, 1), (70, .lcmp, 1), (71, .ifCond .ne 7, 3), (74, .iconst 1, 1), (75, .goto 4, 3), (78, .iconst 0, 1), (79, .ireturn, 1)])
theorem okX2_isOnRing : mdOk mX2_isOnRing := ⟨by decide +kernel, q2215, q70, by decide, by unfold mdDc; decide +kernel⟩
def mX2_place : Md := (yX2_place, cX2_place, 8, (some Jvm.ClassFile.FieldType.long), none, 2, [(0, .aload_n 0, 1), (1, .iconst 0, 1), (2, .putfield 69, 3), (5, .aload_n 0, 1), (6, .iconst 0, 1), (7, .iload_n 1, 1), (8, .invokevirtual 143, 3), (11, .istore_n 3, 1), (12, .aload_n 0, 1), (13, .iload_n 3, 1), (14, .iconst (-1), 1), (15, .if_icmp .eq 12, 3), (18, .iload_n 2, 1), (19, .ifCond .lt 8, 3), (22, .iload_n 2, 1), (23, .iconst 2, 1), (24, .if_icmp .le 7, 3), (27, .iconst 1, 1), (28, .goto 4, 3), (31, .iconst 0, 1), (32, .iconst 1, 1), (33, .invokevirtual 75, 3), (36, .ifCond .ne 24, 3), (39, .aload_n 0, 1), (40, .aload_n 0, 1), (41, .iload_n 3, 1), (42, .invokevirtual 200, 3), (45, .ifCond .ne 7, 3), (48, .iconst 1, 1), (49, .goto 4, 3), (52, .iconst 0, 1), (53, .iconst 1, 1), (54, .invokevirtual 75, 3), (57, .ifCond .eq 5, 3), (60, .lconst 0, 1), (61, .lreturn, 1), (62, .lconst 0, 1), (63, .lstore 4, 2), (65, .iconst 0, 1), (66, .istore 6, 2), (68, .iload_n 3, 1), (69, .iconst (-1), 1), (70, .if_icmp .eq 100, 3), (73, .iload 6, 2), (75, .aload_n 0, 1), (76, .getfield 35, 3), (79, .iconst 0, 1), (80, .iaload, 1), (81, .if_icmp .le 7, 3), (84, .ldc2_w 203, 3), (87, .lreturn, 1), (88, .iinc 6 1, 3), (91, .lload 4, 2), (93, .aload_n 0, 1), (94, .getfield 53, 3), (97, .bipush 8, 2), (99, .iload_n 3, 1), (100, .imul, 1), (101, .iload_n 2, 1), (102, .iadd, 1), (103, .iaload, 1), (104, .i2l, 1), (105, .ladd, 1), (106, .lstore 4, 2), (108, .aload_n 0, 1), (109, .getfield 50, 3), (112, .bipush 8, 2), (114, .iload_n 3, 1), (115, .imul, 1), (116, .iconst 3, 1), (117, .iadd, 1), (118, .iaload, 1), (119, .iconst 2, 1), (120, .if_icmp .ne 22, 3), (123, .aload_n 0, 1), (124, .iconst 0, 1), (125, .aload_n 0, 1), (126, .getfield 53, 3), (129, .bipush 8, 2), (131, .iload_n 3, 1), (132, .imul, 1), (133, .iconst 3, 1), (134, .iadd, 1), (135, .iaload, 1), (136, .invokevirtual 143, 3), (139, .goto 4, 3), (142, .iconst (-1), 1), (143, .istore 7, 2), (145, .iload 7, 2), (147, .iconst (-1), 1), (148, .if_icmp .eq 17, 3), (151, .aload_n 0, 1), (152, .iload 7, 2), (154, .invokevirtual 200, 3), (157, .ifCond .eq 8, 3), (160, .iload 7, 2), (162, .goto 4, 3), (165, .iconst (-1), 1), (166, .istore_n 3, 1), (167, .goto (-99), 3), (170, .lload 4, 2), (172, .lreturn, 1)])
theorem okX2_place : mdOk mX2_place := ⟨by decide +kernel, q2219, q70, by decide, by unfold mdDc; decide +kernel⟩
def mX2_isPlaced : Md := (yX2_isPlaced, cX2_isPlaced, 3, (some Jvm.ClassFile.FieldType.boolean), none, 1, [(0, .bipush 8, 2), (2, .iload_n 1, 1), (3, .imul, 1), (4, .istore_n 2, 1), (5, .aload_n 0, 1), (6, .getfield 47, 3), (9, .iload_n 1, 1), (10, .iaload, 1), (11, .iconst 3, 1), (12, .if_icmp .le 63, 3), (15, .aload_n 0, 1), (16, .getfield 50, 3), (19, .iload_n 2, 1), (20, .iaload, 1), (21, .ifCond .ne 54, 3), (24, .aload_n 0, 1), (25, .getfield 50, 3), (28, .iload_n 2, 1), (29, .iconst 1, 1), (30, .iadd, 1), (31, .iaload, 1), (32, .ifCond .ne 43, 3), (35, .aload_n 0, 1), (36, .getfield 50, 3), (39, .iload_n 2, 1), (40, .iconst 2, 1), (41, .iadd, 1), (42, .iaload, 1), (43, .ifCond .ne 32, 3), (46, .aload_n 0, 1), (47, .getfield 50, 3), (50, .iload_n 2, 1), (51, .iconst 3, 1), (52, .iadd, 1), (53, .iaload, 1), (54, .iconst 2, 1), (55, .if_icmp .eq 16, 3), (58, .aload_n 0, 1), (59, .getfield 50, 3), (62, .iload_n 2, 1), (63, .iconst 3, 1), (64, .iadd, 1), (65, .iaload, 1), (66, .bipush 6, 2), (68, .if_icmp .ne 7, 3), (71, .iconst 1, 1), (72, .goto 4, 3), (75, .iconst 0, 1), (76, .ireturn, 1)])
theorem okX2_isPlaced : mdOk mX2_isPlaced := ⟨by decide +kernel, q2223, q70, by decide, by unfold mdDc; decide +kernel⟩
def mX2_alike : Md := (yX2_alike, cX2_alike, 5, (some Jvm.ClassFile.FieldType.boolean), none, 6, [(0, .aload_n 0, 1), (1, .iconst 0, 1), (2, .putfield 69, 3), (5, .aload_n 0, 1), (6, .iconst 0, 1), (7, .iload_n 1, 1), (8, .invokevirtual 143, 3), (11, .istore_n 3, 1), (12, .aload_n 0, 1), (13, .iconst 0, 1), (14, .iload_n 2, 1), (15, .invokevirtual 143, 3), (18, .istore 4, 2), (20, .aload_n 0, 1), (21, .iload_n 3, 1), (22, .iconst (-1), 1), (23, .if_icmp .eq 9, 3), (26, .iload 4, 2), (28, .iconst (-1), 1), (29, .if_icmp .ne 7, 3), (32, .iconst 1, 1), (33, .goto 4, 3), (36, .iconst 0, 1), (37, .iconst 1, 1), (38, .invokevirtual 75, 3), (41, .ifCond .eq 5, 3), (44, .iconst 0, 1), (45, .ireturn, 1), (46, .aload_n 0, 1), (47, .invokevirtual 212, 3), (50, .aload_n 0, 1), (51, .getfield 62, 3), (54, .iload_n 3, 1), (55, .iaload, 1), (56, .aload_n 0, 1), (57, .getfield 62, 3), (60, .iload 4, 2), (62, .iaload, 1), (63, .if_icmp .ne 7, 3), (66, .iconst 1, 1), (67, .goto 4, 3), (70, .iconst 0, 1), (71, .ireturn, 1)])
theorem okX2_alike : mdOk mX2_alike := ⟨by decide +kernel, q2228, q70, by decide, by unfold mdDc; decide +kernel⟩
def mX2_findLikes : Md := (yX2_findLikes, cX2_findLikes, 4, none, none, 5, [(0, .aload_n 0, 1), (1, .invokevirtual 180, 3), (4, .iconst 0, 1), (5, .istore_n 1, 1), (6, .iload_n 1, 1), (7, .bipush 40, 2), (9, .if_icmp .ge 16, 3), (12, .aload_n 0, 1), (13, .getfield 62, 3), (16, .iload_n 1, 1), (17, .iload_n 1, 1), (18, .iastore, 1), (19, .iinc 1 1, 3), (22, .goto (-16), 3), (25, .iconst 0, 1), (26, .istore_n 1, 1), (27, .iload_n 1, 1), (28, .bipush 40, 2), (30, .if_icmp .ge 94, 3), (33, .iconst 0, 1), (34, .istore_n 2, 1), (35, .iload_n 2, 1), (36, .aload_n 0, 1), (37, .getfield 35, 3), (40, .iconst 0, 1), (41, .iaload, 1), (42, .if_icmp .ge 76, 3), (45, .aload_n 0, 1), (46, .getfield 59, 3), (49, .iload_n 2, 1), (50, .iaload, 1), (51, .iload_n 1, 1), (52, .if_icmp .eq 6, 3), (55, .goto 57, 3), (58, .iconst 0, 1), (59, .istore_n 3, 1), (60, .iload_n 3, 1), (61, .iload_n 2, 1), (62, .if_icmp .ge 50, 3), (65, .aload_n 0, 1), (66, .getfield 62, 3), (69, .iload_n 2, 1), (70, .iaload, 1), (71, .iload_n 2, 1), (72, .if_icmp .ne 40, 3), (75, .aload_n 0, 1), (76, .getfield 59, 3), (79, .iload_n 3, 1), (80, .iaload, 1), (81, .iload_n 1, 1), (82, .if_icmp .ne 24, 3), (85, .aload_n 0, 1), (86, .iload_n 2, 1), (87, .iload_n 3, 1), (88, .invokevirtual 209, 3), (91, .ifCond .eq 15, 3), (94, .aload_n 0, 1), (95, .getfield 62, 3), (98, .iload_n 2, 1), (99, .aload_n 0, 1), (100, .getfield 62, 3), (103, .iload_n 3, 1), (104, .iaload, 1), (105, .iastore, 1), (106, .iinc 3 1, 3), (109, .goto (-49), 3), (112, .iinc 2 1, 3), (115, .goto (-80), 3), (118, .iinc 1 1, 3), (121, .goto (-94), 3), (124, .return_, 1)])
theorem okX2_findLikes : mdOk mX2_findLikes := ⟨by decide +kernel, q2232, q70, by decide, by unfold mdDc; decide +kernel⟩
def mX2_isLineAlike : Md := (yX2_isLineAlike, cX2_isLineAlike, 5, (some Jvm.ClassFile.FieldType.boolean), none, 4, [(0, .aload_n 0, 1), (1, .getfield 41, 3), (4, .iload_n 1, 1), (5, .iaload, 1), (6, .aload_n 0, 1), (7, .getfield 41, 3), (10, .iload_n 2, 1), (11, .iaload, 1), (12, .if_icmp .ne 50, 3), (15, .aload_n 0, 1), (16, .getfield 47, 3), (19, .iload_n 1, 1), (20, .iaload, 1), (21, .aload_n 0, 1), (22, .getfield 47, 3), (25, .iload_n 2, 1), (26, .iaload, 1), (27, .if_icmp .ne 35, 3), (30, .aload_n 0, 1), (31, .getfield 44, 3), (34, .bipush 8, 2), (36, .iload_n 1, 1), (37, .imul, 1), (38, .aload_n 0, 1), (39, .getfield 44, 3), (42, .bipush 8, 2), (44, .iload_n 2, 1), (45, .imul, 1), (46, .aload_n 0, 1), (47, .getfield 41, 3), (50, .iload_n 1, 1), (51, .iaload, 1), (52, .invokestatic 117, 3), (55, .ifCond .eq 7, 3), (58, .iconst 1, 1), (59, .goto 4, 3), (62, .iconst 0, 1), (63, .istore_n 3, 1), (64, .iconst 0, 1), (65, .istore 4, 2), (67, .iload 4, 2), (69, .aload_n 0, 1), (70, .getfield 47, 3), (73, .iload_n 1, 1), (74, .iaload, 1), (75, .if_icmp .ge 32, 3), (78, .iload_n 3, 1), (79, .ifCond .eq 28, 3), (82, .aload_n 0, 1), (83, .bipush 8, 2), (85, .iload_n 1, 1), (86, .imul, 1), (87, .iload 4, 2), (89, .iadd, 1), (90, .bipush 8, 2), (92, .iload_n 2, 1), (93, .imul, 1), (94, .iload 4, 2), (96, .iadd, 1), (97, .invokevirtual 205, 3), (100, .istore_n 3, 1), (101, .iinc 4 1, 3), (104, .goto (-37), 3), (107, .iload_n 3, 1), (108, .ireturn, 1)])
theorem okX2_isLineAlike : mdOk mX2_isLineAlike := ⟨by decide +kernel, q2236, q70, by decide, by unfold mdDc; decide +kernel⟩
def mX2_isArgumentAlike : Md := (yX2_isArgumentAlike, cX2_isArgumentAlike, 5, (some Jvm.ClassFile.FieldType.boolean), none, 3, [(0, .aload_n 0, 1), (1, .getfield 50, 3), (4, .iload_n 1, 1), (5, .iaload, 1), (6, .aload_n 0, 1), (7, .getfield 50, 3), (10, .iload_n 2, 1), (11, .iaload, 1), (12, .if_icmp .eq 5, 3), (15, .iconst 0, 1), (16, .ireturn, 1), (17, .aload_n 0, 1), (18, .getfield 50, 3), (21, .iload_n 1, 1), (22, .iaload, 1), (23, .ifCond .eq 14, 3), (26, .aload_n 0, 1), (27, .getfield 50, 3), (30, .iload_n 1, 1), (31, .iaload, 1), (32, .bipush 6, 2), (34, .if_icmp .ne 24, 3), (37, .aload_n 0, 1), (38, .getfield 53, 3), (41, .iload_n 1, 1), (42, .iaload, 1), (43, .aload_n 0, 1), (44, .getfield 53, 3), (47, .iload_n 2, 1), (48, .iaload, 1), (49, .if_icmp .ne 7, 3), (52, .iconst 1, 1), (53, .goto 4, 3), (56, .iconst 0, 1), (57, .ireturn, 1), (58, .aload_n 0, 1), (59, .getfield 50, 3), (62, .iload_n 1, 1), (63, .iaload, 1), (64, .iconst 2, 1), (65, .if_icmp .ne 34, 3), (68, .aload_n 0, 1), (69, .getfield 62, 3), (72, .aload_n 0, 1), (73, .iload_n 1, 1), (74, .iconst 0, 1), (75, .invokevirtual 174, 3), (78, .iaload, 1), (79, .aload_n 0, 1), (80, .getfield 62, 3), (83, .aload_n 0, 1), (84, .iload_n 2, 1), (85, .iconst 0, 1), (86, .invokevirtual 174, 3), (89, .iaload, 1), (90, .if_icmp .ne 7, 3), (93, .iconst 1, 1), (94, .goto 4, 3), (97, .iconst 0, 1), (98, .ireturn, 1), (99, .aload_n 0, 1), (100, .getfield 53, 3), (103, .iload_n 1, 1), (104, .iaload, 1), (105, .aload_n 0, 1), (106, .getfield 53, 3), (109, .iload_n 2, 1), (110, .iaload, 1), (111, .if_icmp .eq 5, 3), (114, .iconst 0, 1), (115, .ireturn, 1), (116, .aload_n 0, 1), (117, .getfield 50, 3), (120, .iload_n 1, 1), (121, .iaload, 1), (122, .iconst 4, 1), (123, .if_icmp .eq 29, 3), (126, .aload_n 0, 1), (127, .getfield 56, 3), (130, .bipush 20, 2), (132, .iload_n 1, 1), (133, .imul, 1), (134, .aload_n 0, 1), (135, .getfield 56, 3), (138, .bipush 20, 2), (140, .iload_n 2, 1), (141, .imul, 1), (142, .aload_n 0, 1), (143, .getfield 53, 3), (146, .iload_n 1, 1), (147, .iaload, 1), (148, .invokestatic 117, 3), (151, .ireturn, 1), (152, .iconst 1, 1), (153, .istore_n 3, 1), (154, .iconst 0, 1), (155, .istore 4, 2), (157, .iload 4, 2), (159, .aload_n 0, 1), (160, .getfield 53, 3), (163, .iload_n 1, 1), (164, .iaload, 1), (165, .if_icmp .ge 46, 3), (168, .iload_n 3, 1), (169, .ifCond .eq 34, 3), (172, .aload_n 0, 1), (173, .getfield 62, 3), (176, .aload_n 0, 1), (177, .iload_n 1, 1), (178, .iload 4, 2), (180, .invokevirtual 174, 3), (183, .iaload, 1), (184, .aload_n 0, 1), (185, .getfield 62, 3), (188, .aload_n 0, 1), (189, .iload_n 2, 1), (190, .iload 4, 2), (192, .invokevirtual 174, 3), (195, .iaload, 1), (196, .if_icmp .ne 7, 3), (199, .iconst 1, 1), (200, .goto 4, 3), (203, .iconst 0, 1), (204, .istore_n 3, 1), (205, .iinc 4 1, 3), (208, .goto (-51), 3), (211, .iload_n 3, 1), (212, .ireturn, 1)])
theorem okX2_isArgumentAlike : mdOk mX2_isArgumentAlike := ⟨by decide +kernel, q2240, q70, by decide, by unfold mdDc; decide +kernel⟩
def mX2_join : Md := (yX2_join, cX2_join, 4, (some Jvm.ClassFile.FieldType.int), none, 6, [(0, .aload_n 0, 1), (1, .iconst 0, 1), (2, .putfield 69, 3), (5, .aload_n 0, 1), (6, .invokevirtual 212, 3), (9, .iconst 0, 1), (10, .istore_n 1, 1), (11, .iload_n 1, 1), (12, .aload_n 0, 1), (13, .getfield 35, 3), (16, .iconst 0, 1), (17, .iaload, 1), (18, .if_icmp .ge 122, 3), (21, .bipush 8, 2), (23, .iload_n 1, 1), (24, .imul, 1), (25, .istore_n 2, 1), (26, .iload_n 2, 1), (27, .bipush 8, 2), (29, .iload_n 1, 1), (30, .imul, 1), (31, .aload_n 0, 1), (32, .getfield 47, 3), (35, .iload_n 1, 1), (36, .iaload, 1), (37, .iadd, 1), (38, .if_icmp .ge 96, 3), (41, .aload_n 0, 1), (42, .getfield 50, 3), (45, .iload_n 2, 1), (46, .iaload, 1), (47, .iconst 2, 1), (48, .if_icmp .ne 25, 3), (51, .aload_n 0, 1), (52, .getfield 53, 3), (55, .iload_n 2, 1), (56, .aload_n 0, 1), (57, .getfield 38, 3), (60, .aload_n 0, 1), (61, .getfield 62, 3), (64, .aload_n 0, 1), (65, .iload_n 2, 1), (66, .iconst 0, 1), (67, .invokevirtual 174, 3), (70, .iaload, 1), (71, .iaload, 1), (72, .iastore, 1), (73, .iconst 0, 1), (74, .istore_n 3, 1), (75, .iload_n 3, 1), (76, .aload_n 0, 1), (77, .getfield 53, 3), (80, .iload_n 2, 1), (81, .iaload, 1), (82, .if_icmp .ge 46, 3), (85, .aload_n 0, 1), (86, .getfield 50, 3), (89, .iload_n 2, 1), (90, .iaload, 1), (91, .iconst 4, 1), (92, .if_icmp .ne 36, 3), (95, .aload_n 0, 1), (96, .getfield 56, 3), (99, .bipush 20, 2), (101, .iload_n 2, 1), (102, .imul, 1), (103, .iload_n 3, 1), (104, .iadd, 1), (105, .aload_n 0, 1), (106, .getfield 38, 3), (109, .aload_n 0, 1), (110, .getfield 62, 3), (113, .aload_n 0, 1), (114, .iload_n 2, 1), (115, .iload_n 3, 1), (116, .invokevirtual 174, 3), (119, .iaload, 1), (120, .iaload, 1), (121, .iastore, 1), (122, .iinc 3 1, 3), (125, .goto (-50), 3), (128, .iinc 2 1, 3), (131, .goto (-105), 3), (134, .iinc 1 1, 3), (137, .goto (-126), 3), (140, .iconst 0, 1), (141, .istore_n 1, 1), (142, .iconst 0, 1), (143, .istore_n 2, 1), (144, .iconst 0, 1), (145, .istore_n 3, 1), (146, .iload_n 3, 1), (147, .aload_n 0, 1), (148, .getfield 35, 3), (151, .iconst 0, 1), (152, .iaload, 1), (153, .if_icmp .ge 34, 3), (156, .aload_n 0, 1), (157, .getfield 62, 3), (160, .iload_n 3, 1), (161, .iaload, 1), (162, .iload_n 3, 1), (163, .if_icmp .eq 9, 3), (166, .iinc 1 1, 3), (169, .goto 12, 3), (172, .aload_n 0, 1), (173, .iload_n 2, 1), (174, .iload_n 3, 1), (175, .invokevirtual 155, 3), (178, .iinc 2 1, 3), (181, .iinc 3 1, 3), (184, .goto (-38), 3), (187, .aload_n 0, 1), (188, .getfield 35, 3), (191, .iconst 0, 1), (192, .iload_n 2, 1), (193, .iastore, 1), (194, .iload_n 1, 1), (195, .ireturn, 1)])
theorem okX2_join : mdOk mX2_join := ⟨by decide +kernel, q2244, q70, by decide, by unfold mdDc; decide +kernel⟩
def mX2_differs : Md := (yX2_differs, cX2_differs, 8, (some Jvm.ClassFile.FieldType.int), none, 3, [(0, .aload_n 0, 1), (1, .iconst 0, 1), (2, .putfield 69, 3), (5, .aload_n 0, 1), (6, .iload_n 1, 1), (7, .ifCond .lt 12, 3), (10, .iload_n 2, 1), (11, .ifCond .lt 8, 3), (14, .iload_n 2, 1), (15, .iconst 1, 1), (16, .if_icmp .le 7, 3), (19, .iconst 1, 1), (20, .goto 4, 3), (23, .iconst 0, 1), (24, .iconst 1, 1), (25, .invokevirtual 75, 3), (28, .ifCond .eq 5, 3), (31, .iconst 0, 1), (32, .ireturn, 1), (33, .iload_n 1, 1), (34, .istore_n 3, 1), (35, .iconst 1, 1), (36, .istore 4, 2), (38, .iload 4, 2), (40, .sipush 1000, 3), (43, .if_icmp .ge 108, 3), (46, .aload_n 0, 1), (47, .iconst 0, 1), (48, .iload 4, 2), (50, .invokevirtual 143, 3), (53, .istore 5, 2), (55, .aload_n 0, 1), (56, .iconst 2, 1), (57, .iload 4, 2), (59, .invokevirtual 143, 3), (62, .istore 6, 2), (64, .iload 5, 2), (66, .iconst (-1), 1), (67, .if_icmp .ne 13, 3), (70, .iload 6, 2), (72, .iconst (-1), 1), (73, .if_icmp .ne 7, 3), (76, .iconst 0, 1), (77, .goto 39, 3), (80, .iload 5, 2), (82, .iconst (-1), 1), (83, .if_icmp .ne 7, 3), (86, .iconst 1, 1), (87, .goto 29, 3), (90, .iload 6, 2), (92, .iconst (-1), 1), (93, .if_icmp .ne 7, 3), (96, .iconst 2, 1), (97, .goto 19, 3), (100, .aload_n 0, 1), (101, .iload 5, 2), (103, .iload 6, 2), (105, .invokevirtual 215, 3), (108, .ifCond .eq 7, 3), (111, .iconst 0, 1), (112, .goto 4, 3), (115, .iconst 3, 1), (116, .istore 7, 2), (118, .iload 7, 2), (120, .ifCond .ne 6, 3), (123, .goto 22, 3), (126, .iload_n 3, 1), (127, .ifCond .ne 15, 3), (130, .iload_n 2, 1), (131, .ifCond .ne 8, 3), (134, .iload 4, 2), (136, .goto 5, 3), (139, .iload 7, 2), (141, .ireturn, 1), (142, .iinc 3 (-1), 3), (145, .iinc 4 1, 3), (148, .goto (-110), 3), (151, .iconst (-1), 1), (152, .ireturn, 1)])
theorem okX2_differs : mdOk mX2_differs := ⟨by decide +kernel, q2248, q70, by decide, by unfold mdDc; decide +kernel⟩
def mX2_isLineSame : Md := (yX2_isLineSame, cX2_isLineSame, 8, (some Jvm.ClassFile.FieldType.boolean), none, 2, [(0, .aload_n 0, 1), (1, .getfield 41, 3), (4, .iload_n 1, 1), (5, .iaload, 1), (6, .aload_n 0, 1), (7, .getfield 41, 3), (10, .iload_n 2, 1), (11, .iaload, 1), (12, .if_icmp .ne 50, 3), (15, .aload_n 0, 1), (16, .getfield 47, 3), (19, .iload_n 1, 1), (20, .iaload, 1), (21, .aload_n 0, 1), (22, .getfield 47, 3), (25, .iload_n 2, 1), (26, .iaload, 1), (27, .if_icmp .ne 35, 3), (30, .aload_n 0, 1), (31, .getfield 44, 3), (34, .bipush 8, 2), (36, .iload_n 1, 1), (37, .imul, 1), (38, .aload_n 0, 1), (39, .getfield 44, 3), (42, .bipush 8, 2), (44, .iload_n 2, 1), (45, .imul, 1), (46, .aload_n 0, 1), (47, .getfield 41, 3), (50, .iload_n 1, 1), (51, .iaload, 1), (52, .invokestatic 117, 3), (55, .ifCond .eq 7, 3), (58, .iconst 1, 1), (59, .goto 4, 3), (62, .iconst 0, 1), (63, .istore_n 3, 1), (64, .iconst 0, 1), (65, .istore 4, 2), (67, .iload 4, 2), (69, .aload_n 0, 1), (70, .getfield 47, 3), (73, .iload_n 1, 1), (74, .iaload, 1), (75, .if_icmp .ge 168, 3), (78, .iload_n 3, 1), (79, .ifCond .eq 164, 3), (82, .bipush 8, 2), (84, .iload_n 1, 1), (85, .imul, 1), (86, .iload 4, 2), (88, .iadd, 1), (89, .istore 5, 2), (91, .bipush 8, 2), (93, .iload_n 2, 1), (94, .imul, 1), (95, .iload 4, 2), (97, .iadd, 1), (98, .istore 6, 2), (100, .aload_n 0, 1), (101, .getfield 50, 3), (104, .iload 5, 2), (106, .iaload, 1), (107, .aload_n 0, 1), (108, .getfield 50, 3), (111, .iload 6, 2), (113, .iaload, 1), (114, .if_icmp .ne 24, 3), (117, .aload_n 0, 1), (118, .getfield 53, 3), (121, .iload 5, 2), (123, .iaload, 1), (124, .aload_n 0, 1), (125, .getfield 53, 3), (128, .iload 6, 2), (130, .iaload, 1), (131, .if_icmp .ne 7, 3), (134, .iconst 1, 1), (135, .goto 4, 3), (138, .iconst 0, 1), (139, .istore_n 3, 1), (140, .aload_n 0, 1), (141, .getfield 50, 3), (144, .iload 5, 2), (146, .iaload, 1), (147, .iconst 1, 1), (148, .if_icmp .eq 36, 3), (151, .aload_n 0, 1), (152, .getfield 50, 3), (155, .iload 5, 2), (157, .iaload, 1), (158, .iconst 5, 1), (159, .if_icmp .eq 25, 3), (162, .aload_n 0, 1), (163, .getfield 50, 3), (166, .iload 5, 2), (168, .iaload, 1), (169, .iconst 3, 1), (170, .if_icmp .eq 14, 3), (173, .aload_n 0, 1), (174, .getfield 50, 3), (177, .iload 5, 2), (179, .iaload, 1), (180, .iconst 4, 1), (181, .if_icmp .ne 7, 3), (184, .iconst 1, 1), (185, .goto 4, 3), (188, .iconst 0, 1), (189, .istore 7, 2), (191, .iload_n 3, 1), (192, .ifCond .eq 43, 3), (195, .iload 7, 2), (197, .ifCond .eq 34, 3), (200, .aload_n 0, 1), (201, .getfield 56, 3), (204, .bipush 20, 2), (206, .iload 5, 2), (208, .imul, 1), (209, .aload_n 0, 1), (210, .getfield 56, 3), (213, .bipush 20, 2), (215, .iload 6, 2), (217, .imul, 1), (218, .aload_n 0, 1), (219, .getfield 53, 3), (222, .iload 5, 2), (224, .iaload, 1), (225, .invokestatic 117, 3), (228, .ifCond .eq 7, 3), (231, .iconst 1, 1), (232, .goto 4, 3), (235, .iconst 0, 1), (236, .istore_n 3, 1), (237, .iinc 4 1, 3), (240, .goto (-173), 3), (243, .iload_n 3, 1), (244, .ireturn, 1)])
theorem okX2_isLineSame : mdOk mX2_isLineSame := ⟨by decide +kernel, q2252, q70, by decide, by unfold mdDc; decide +kernel⟩
def mX2_count : Md := (yX2_count, cX2_count, 2, (some Jvm.ClassFile.FieldType.int), none, 2, [(0, .aload_n 0, 1), (1, .iconst 0, 1), (2, .putfield 69, 3), (5, .aload_n 0, 1), (6, .iload_n 1, 1), (7, .ifCond .lt 8, 3), (10, .iload_n 1, 1), (11, .iconst 3, 1), (12, .if_icmp .le 7, 3), (15, .iconst 1, 1), (16, .goto 4, 3), (19, .iconst 0, 1), (20, .iconst 1, 1), (21, .invokevirtual 75, 3), (24, .ifCond .eq 5, 3), (27, .iconst 0, 1), (28, .ireturn, 1), (29, .iload_n 1, 1), (30, .ifCond .ne 10, 3), (33, .aload_n 0, 1), (34, .getfield 79, 3), (37, .goto 37, 3), (40, .iload_n 1, 1), (41, .iconst 1, 1), (42, .if_icmp .ne 12, 3), (45, .aload_n 0, 1), (46, .getfield 16, 3), (49, .iconst 0, 1), (50, .iaload, 1), (51, .goto 23, 3), (54, .iload_n 1, 1), (55, .iconst 2, 1), (56, .if_icmp .ne 12, 3), (59, .aload_n 0, 1), (60, .getfield 35, 3), (63, .iconst 0, 1), (64, .iaload, 1), (65, .goto 9, 3), (68, .aload_n 0, 1), (69, .getfield 35, 3), (72, .iconst 2, 1), (73, .iaload, 1), (74, .ireturn, 1)])
theorem okX2_count : mdOk mX2_count := ⟨by decide +kernel, q2256, q70, by decide, by unfold mdDc; decide +kernel⟩
theorem lk_X2_99 : LkS RX2 99 mX2_isDigit 1 := ⟨okX2_isDigit, q2088, q2089, ⟨by decide, by decide⟩, by decide +kernel⟩
theorem lk_X2_103 : LkS RX2 103 mX2_isLetter 1 := ⟨okX2_isLetter, q2063, q2064, ⟨by decide, by decide⟩, by decide +kernel⟩
theorem lk_X2_117 : LkS RX2 117 mX2_isSame 5 := ⟨okX2_isSame, q2066, q2067, ⟨by decide, by decide⟩, by decide +kernel⟩
theorem lk_X2_121 : LkS RX2 121 mX2_sortOf 1 := ⟨okX2_sortOf, q2073, q2074, ⟨by decide, by decide⟩, by decide +kernel⟩
theorem lk_X2_128 : LkS RX2 128 mX2_beginsNumber 1 := ⟨okX2_beginsNumber, q2099, q2100, ⟨by decide, by decide⟩, by decide +kernel⟩
theorem lk_X2_75 : LkV RX2 75 RX2 mX2_fails 2 := ⟨okX2_fails, q2031, q2033, qs26, ⟨by decide, by decide⟩, by decide +kernel⟩
theorem lk_X2_88 : LkV RX2 88 RX2 mX2_peek 0 := ⟨okX2_peek, q2047, q2049, qs27, ⟨by decide, by decide⟩, by decide +kernel⟩
theorem lk_X2_92 : LkV RX2 92 RX2 mX2_wrongAt 1 := ⟨okX2_wrongAt, q2055, q2057, qs29, ⟨by decide, by decide⟩, by decide +kernel⟩
theorem lk_X2_106 : LkV RX2 106 RX2 mX2_digits 2 := ⟨okX2_digits, q2084, q2086, qs33, ⟨by decide, by decide⟩, by decide +kernel⟩
theorem lk_X2_110 : LkV RX2 110 RX2 mX2_sign 1 := ⟨okX2_sign, q2069, q2071, qs31, ⟨by decide, by decide⟩, by decide +kernel⟩
theorem lk_X2_113 : LkV RX2 113 RX2 mX2_name 2 := ⟨okX2_name, q2059, q2061, qs30, ⟨by decide, by decide⟩, by decide +kernel⟩
theorem lk_X2_125 : LkV RX2 125 RX2 mX2_kind 0 := ⟨okX2_kind, q2051, q2053, qs28, ⟨by decide, by decide⟩, by decide +kernel⟩
theorem lk_X2_131 : LkV RX2 131 RX2 mX2_reference 0 := ⟨okX2_reference, q2110, q2112, qs38, ⟨by decide, by decide⟩, by decide +kernel⟩
theorem lk_X2_134 : LkV RX2 134 RX2 mX2_number 0 := ⟨okX2_number, q2102, q2104, qs36, ⟨by decide, by decide⟩, by decide +kernel⟩
theorem lk_X2_137 : LkV RX2 137 RX2 mX2_writing 1 := ⟨okX2_writing, q2106, q2108, qs37, ⟨by decide, by decide⟩, by decide +kernel⟩
theorem lk_X2_140 : LkV RX2 140 RX2 mX2_list 1 := ⟨okX2_list, q2114, q2116, qs39, ⟨by decide, by decide⟩, by decide +kernel⟩
theorem lk_X2_143 : LkV RX2 143 RX2 mX2_find 2 := ⟨okX2_find, q2091, q2093, qs34, ⟨by decide, by decide⟩, by decide +kernel⟩
theorem lk_X2_146 : LkV RX2 146 RX2 mX2_argument 1 := ⟨okX2_argument, q2095, q2097, qs35, ⟨by decide, by decide⟩, by decide +kernel⟩
theorem lk_X2_149 : LkV RX2 149 RX2 mX2_oneLine 0 := ⟨okX2_oneLine, q2080, q2082, qs32, ⟨by decide, by decide⟩, by decide +kernel⟩
theorem lk_X2_152 : LkV RX2 152 RX2 mX2_isMissing 1 := ⟨okX2_isMissing, q2118, q2120, qs40, ⟨by decide, by decide⟩, by decide +kernel⟩
theorem lk_X2_155 : LkV RX2 155 RX2 mX2_copy 2 := ⟨okX2_copy, q2122, q2124, qs41, ⟨by decide, by decide⟩, by decide +kernel⟩
theorem lk_X2_162 : LkV RX2 162 RX2 mX2_put 1 := ⟨okX2_put, q2130, q2132, qs42, ⟨by decide, by decide⟩, by decide +kernel⟩
theorem lk_X2_165 : LkV RX2 165 RX2 mX2_putNumber 1 := ⟨okX2_putNumber, q2134, q2136, qs43, ⟨by decide, by decide⟩, by decide +kernel⟩
theorem lk_X2_168 : LkV RX2 168 RX2 mX2_putArgument 1 := ⟨okX2_putArgument, q2138, q2140, qs44, ⟨by decide, by decide⟩, by decide +kernel⟩
theorem lk_X2_171 : LkV RX2 171 RX2 mX2_references 1 := ⟨okX2_references, q2162, q2164, qs47, ⟨by decide, by decide⟩, by decide +kernel⟩
theorem lk_X2_174 : LkV RX2 174 RX2 mX2_referred 2 := ⟨okX2_referred, q2166, q2168, qs48, ⟨by decide, by decide⟩, by decide +kernel⟩
theorem lk_X2_177 : LkV RX2 177 RX2 mX2_findWays 0 := ⟨okX2_findWays, q2158, q2160, qs46, ⟨by decide, by decide⟩, by decide +kernel⟩
theorem lk_X2_180 : LkV RX2 180 RX2 mX2_findDepths 0 := ⟨okX2_findDepths, q2154, q2156, qs45, ⟨by decide, by decide⟩, by decide +kernel⟩
theorem lk_X2_183 : LkV RX2 183 RX2 mX2_kindOf 1 := ⟨okX2_kindOf, q2170, q2172, qs49, ⟨by decide, by decide⟩, by decide +kernel⟩
theorem lk_X2_186 : LkV RX2 186 RX2 mX2_referencesOf 1 := ⟨okX2_referencesOf, q2174, q2176, qs50, ⟨by decide, by decide⟩, by decide +kernel⟩
theorem lk_X2_189 : LkV RX2 189 RX2 mX2_argumentAt 2 := ⟨okX2_argumentAt, q2182, q2184, qs51, ⟨by decide, by decide⟩, by decide +kernel⟩
theorem lk_X2_194 : LkV RX2 194 RX2 mX2_firstWrong 2 := ⟨okX2_firstWrong, q2200, q2202, qs52, ⟨by decide, by decide⟩, by decide +kernel⟩
theorem lk_X2_197 : LkV RX2 197 RX2 mX2_isOnRing 1 := ⟨okX2_isOnRing, q2212, q2214, qs53, ⟨by decide, by decide⟩, by decide +kernel⟩
theorem lk_X2_200 : LkV RX2 200 RX2 mX2_isPlaced 1 := ⟨okX2_isPlaced, q2220, q2222, qs54, ⟨by decide, by decide⟩, by decide +kernel⟩
theorem lk_X2_205 : LkV RX2 205 RX2 mX2_isArgumentAlike 2 := ⟨okX2_isArgumentAlike, q2237, q2239, qs57, ⟨by decide, by decide⟩, by decide +kernel⟩
theorem lk_X2_209 : LkV RX2 209 RX2 mX2_isLineAlike 2 := ⟨okX2_isLineAlike, q2233, q2235, qs56, ⟨by decide, by decide⟩, by decide +kernel⟩
theorem lk_X2_212 : LkV RX2 212 RX2 mX2_findLikes 0 := ⟨okX2_findLikes, q2229, q2231, qs55, ⟨by decide, by decide⟩, by decide +kernel⟩
theorem lk_X2_215 : LkV RX2 215 RX2 mX2_isLineSame 2 := ⟨okX2_isLineSame, q2249, q2251, qs58, ⟨by decide, by decide⟩, by decide +kernel⟩
theorem tab_X2_sortOf {G : Gm} {T : Nat} {w : Wd} {lv : List (Nat × Value)} {st : List Value} {σ : TW} {Q : Option Value → TW → Prop} {x : Int32} (u0 : ¬ x = 69) (u1 : ¬ x = 73) (u2 : ¬ x = 76) (u3 : ¬ x = 77) (u4 : ¬ x = 82) (u5 : ¬ x = 84) (kk : Tn G T w mX2_sortOf 92 lv st σ Q) : Tn G T w mX2_sortOf 1 lv (.int x :: st) σ Q := by
  by_cases hlo : x.toInt < 69 ∨ 84 < x.toInt
  · exact p_tabOut 1 92 rfl rfl hlo kk
  · have h1 : ¬ x.toInt < 69 := fun h => hlo (Or.inl h)
    have h2 : ¬ 84 < x.toInt := fun h => hlo (Or.inr h)
    have g0 : x.toInt ≠ 69 := fun h => u0 (Int32.toInt_inj.mp (h.trans (by decide)))
    have g1 : x.toInt ≠ 73 := fun h => u1 (Int32.toInt_inj.mp (h.trans (by decide)))
    have g2 : x.toInt ≠ 76 := fun h => u2 (Int32.toInt_inj.mp (h.trans (by decide)))
    have g3 : x.toInt ≠ 77 := fun h => u3 (Int32.toInt_inj.mp (h.trans (by decide)))
    have g4 : x.toInt ≠ 82 := fun h => u4 (Int32.toInt_inj.mp (h.trans (by decide)))
    have g5 : x.toInt ≠ 84 := fun h => u5 (Int32.toInt_inj.mp (h.trans (by decide)))
    have hx : ∃ j : Nat, j < 16 ∧ (x.toInt - 69).toNat = j ∧ x.toInt = 69 + j := ⟨(x.toInt - 69).toNat, by omega, rfl, by omega⟩
    obtain ⟨j, hj, e1, e2⟩ := hx
    refine p_tabIn (off := 91) 1 92 rfl h1 h2 ?_ rfl kk
    rw [e1]
    have hj2 : j = 1 ∨ j = 2 ∨ j = 3 ∨ j = 5 ∨ j = 6 ∨ j = 9 ∨ j = 10 ∨ j = 11 ∨ j = 12 ∨ j = 14 := by omega
    rcases hj2 with rfl | rfl | rfl | rfl | rfl | rfl | rfl | rfl | rfl | rfl <;> rfl
theorem tab_X2_putArgument {G : Gm} {T : Nat} {w : Wd} {lv : List (Nat × Value)} {st : List Value} {σ : TW} {Q : Option Value → TW → Prop} {x : Int32} (u0 : ¬ x = 0) (u1 : ¬ x = 1) (u2 : ¬ x = 2) (u3 : ¬ x = 5) (u4 : ¬ x = 6) (kk : Tn G T w mX2_putArgument 198 lv st σ Q) : Tn G T w mX2_putArgument 6 lv (.int x :: st) σ Q := by
  by_cases hlo : x.toInt < 0 ∨ 6 < x.toInt
  · exact p_tabOut 4 198 rfl rfl hlo kk
  · have h1 : ¬ x.toInt < 0 := fun h => hlo (Or.inl h)
    have h2 : ¬ 6 < x.toInt := fun h => hlo (Or.inr h)
    have g0 : x.toInt ≠ 0 := fun h => u0 (Int32.toInt_inj.mp (h.trans (by decide)))
    have g1 : x.toInt ≠ 1 := fun h => u1 (Int32.toInt_inj.mp (h.trans (by decide)))
    have g2 : x.toInt ≠ 2 := fun h => u2 (Int32.toInt_inj.mp (h.trans (by decide)))
    have g3 : x.toInt ≠ 5 := fun h => u3 (Int32.toInt_inj.mp (h.trans (by decide)))
    have g4 : x.toInt ≠ 6 := fun h => u4 (Int32.toInt_inj.mp (h.trans (by decide)))
    have hx : ∃ j : Nat, j < 7 ∧ (x.toInt - 0).toNat = j ∧ x.toInt = 0 + j := ⟨(x.toInt - 0).toNat, by omega, rfl, by omega⟩
    obtain ⟨j, hj, e1, e2⟩ := hx
    refine p_tabIn (off := 192) 4 198 rfl h1 h2 ?_ rfl kk
    rw [e1]
    have hj2 : j = 3 ∨ j = 4 := by omega
    rcases hj2 with rfl | rfl <;> rfl
theorem b_thrown_0 {G : Gm} {T : Nat} {w : Wd} {σ : TW} {Q : Option Value → TW → Prop} (k1 : Q (some (.int (σ.1 0))) σ) : Tn G T w mX2_thrown 0 [(0, .ref T)] [] σ Q := by
  refine p_aload_n 0 1 0 rfl rfl rfl ?_
  refine t_geti (v := .int (σ.1 0)) fl_X2_69 1 4 rfl rfl rfl ?_
  exact t_iret 2 rfl rfl rfl (k1 )
theorem b_say_0 {G : Gm} {T : Nat} {w : Wd} {σ : TW} {Q : Option Value → TW → Prop} {x1 : Int64} (k1 : Tn G T w mX2_say 14 [(0, .ref T), (1, .long x1), (3, .int 0), (4, .int 1), (5, .int 56)] [] (tsI σ 0 0) Q) : Tn G T w mX2_say 0 [(0, .ref T), (1, .long x1)] [] σ Q := by
  refine p_aload_n 0 1 0 rfl rfl rfl ?_
  refine p_iconst 1 2 rfl rfl ci_0 ?_
  refine t_puti fl_X2_69 2 5 rfl rfl rfl rfl (by decide) (tws_0 _ _ _) ?_
  refine p_iconst 3 6 rfl rfl ci_0 ?_
  refine p_istore_n (lv' := [(3, .int 0), (0, .ref T), (1, .long x1)]) 4 7 rfl rfl (Nat.le_of_ble_eq_true rfl) rfl ?_
  refine p_iconst 5 8 rfl rfl ci_1 ?_
  refine p_istore (lv' := [(4, .int 1), (3, .int 0), (0, .ref T), (1, .long x1)]) 6 10 rfl rfl (Nat.le_of_ble_eq_true rfl) rfl ?_
  refine p_bipush 7 12 rfl rfl cb_56 ?_
  refine p_istore (lv' := [(5, .int 56), (4, .int 1), (3, .int 0), (0, .ref T), (1, .long x1)]) 8 14 rfl rfl (Nat.le_of_ble_eq_true rfl) rfl ?_
  exact p_sub [3, 4, 2, 1, 0] rfl (k1 )
theorem b_say_14 {G : Gm} {T : Nat} {w : Wd} {σ : TW} {Q : Option Value → TW → Prop} {x1 : Int64} {x3 : Int32} {x4 : Int32} {x5 : Int32} {Q1 : Int32 → TW → Prop} (e1 : x5 < 0 → ¬ x4 = 0 → Tvi G T w mX2_fails (.ref T :: [.int 0, .int 1]) σ Q1) (k1 : x5 < 0 → ¬ x4 = 0 → ∀ (y1 : Int32) σ1, Q1 y1 σ1 → Tn G T w mX2_say 95 [(0, .ref T), (1, .long x1), (3, .int x3)] [.int y1] σ1 Q) {Q2 : Int32 → TW → Prop} (e2 : x5 < 0 → x4 = 0 → Tvi G T w mX2_fails (.ref T :: [.int 1, .int 1]) σ Q2) (k2 : x5 < 0 → x4 = 0 → ∀ (y2 : Int32) σ2, Q2 y2 σ2 → Tn G T w mX2_say 95 [(0, .ref T), (1, .long x1), (3, .int x3)] [.int y2] σ2 Q) (k3 : ¬ x5 < 0 → x4 = 0 → Tn G T w mX2_say 59 [(0, .ref T), (1, .long x1), (3, .int x3), (5, .int x5), (6, .int (((x1 >>> ((x5 : Int32).toInt64 &&& 63)) &&& 255) : Int64).toInt32)] [.int 0] σ Q) (k4 : ¬ x5 < 0 → ¬ x4 = 0 → (((x1 >>> ((x5 : Int32).toInt64 &&& 63)) &&& 255) : Int64).toInt32 = 0 → Tn G T w mX2_say 59 [(0, .ref T), (1, .long x1), (3, .int x3), (5, .int x5), (6, .int (((x1 >>> ((x5 : Int32).toInt64 &&& 63)) &&& 255) : Int64).toInt32)] [.int 1] σ Q) (k5 : ¬ x5 < 0 → ¬ x4 = 0 → ¬ (((x1 >>> ((x5 : Int32).toInt64 &&& 63)) &&& 255) : Int64).toInt32 = 0 → (((x1 >>> ((x5 : Int32).toInt64 &&& 63)) &&& 255) : Int64).toInt32 < 32 → Tn G T w mX2_say 59 [(0, .ref T), (1, .long x1), (3, .int x3), (5, .int x5), (6, .int (((x1 >>> ((x5 : Int32).toInt64 &&& 63)) &&& 255) : Int64).toInt32)] [.int 0] σ Q) (k6 : ¬ x5 < 0 → ¬ x4 = 0 → ¬ (((x1 >>> ((x5 : Int32).toInt64 &&& 63)) &&& 255) : Int64).toInt32 = 0 → ¬ (((x1 >>> ((x5 : Int32).toInt64 &&& 63)) &&& 255) : Int64).toInt32 < 32 → (126 : Int32) < (((x1 >>> ((x5 : Int32).toInt64 &&& 63)) &&& 255) : Int64).toInt32 → Tn G T w mX2_say 59 [(0, .ref T), (1, .long x1), (3, .int x3), (5, .int x5), (6, .int (((x1 >>> ((x5 : Int32).toInt64 &&& 63)) &&& 255) : Int64).toInt32)] [.int 0] σ Q) (k7 : ¬ x5 < 0 → ¬ x4 = 0 → ¬ (((x1 >>> ((x5 : Int32).toInt64 &&& 63)) &&& 255) : Int64).toInt32 = 0 → ¬ (((x1 >>> ((x5 : Int32).toInt64 &&& 63)) &&& 255) : Int64).toInt32 < 32 → ¬ (126 : Int32) < (((x1 >>> ((x5 : Int32).toInt64 &&& 63)) &&& 255) : Int64).toInt32 → Tn G T w mX2_say 59 [(0, .ref T), (1, .long x1), (3, .int x3), (5, .int x5), (6, .int (((x1 >>> ((x5 : Int32).toInt64 &&& 63)) &&& 255) : Int64).toInt32)] [.int 1] σ Q) : Tn G T w mX2_say 14 [(0, .ref T), (1, .long x1), (3, .int x3), (4, .int x4), (5, .int x5)] [] σ Q := by
  refine p_iload 9 16 4 rfl rfl rfl ?_
  refine p_if_lt 10 19 80 rfl rfl rfl (fun c1 => ?_) (fun c1 => ?_)
  · refine p_aload_n 42 81 0 rfl rfl rfl ?_
    refine p_iload 43 83 3 rfl rfl rfl ?_
    refine p_if_ne 44 86 90 rfl rfl rfl (fun c2 => ?_) (fun c2 => ?_)
    · refine p_iconst 47 91 rfl rfl ci_0 ?_
      refine p_iconst 48 92 rfl rfl ci_1 ?_
      exact t_cVi lk_X2_75 49 95 rfl rfl (by decide) [.int 0, .int 1] rfl rfl (Nat.le_of_ble_eq_true rfl) (Nat.le_of_ble_eq_true rfl) (e1 c1 c2) (fun x σ1 h => p_sub [0, 1, 2] rfl (k1 c1 c2 x σ1 h))
    · refine p_iconst 45 87 rfl rfl ci_1 ?_
      refine p_goto 46 91 rfl rfl ?_
      refine p_iconst 48 92 rfl rfl ci_1 ?_
      exact t_cVi lk_X2_75 49 95 rfl rfl (by decide) [.int 1, .int 1] rfl rfl (Nat.le_of_ble_eq_true rfl) (Nat.le_of_ble_eq_true rfl) (e2 c1 c2) (fun x σ1 h => p_sub [0, 1, 2] rfl (k2 c1 c2 x σ1 h))
  · refine p_lload_n 11 20 1 rfl rfl rfl ?_
    refine p_iload 12 22 4 rfl rfl rfl ?_
    refine p_lshr 13 23 rfl rfl ?_
    refine p_ldc2 q2030 14 26 rfl rfl ?_
    refine p_land 15 27 rfl rfl ?_
    refine p_l2i 16 28 rfl rfl ?_
    refine p_istore (lv' := [(6, .int (((x1 >>> ((x5 : Int32).toInt64 &&& 63)) &&& 255) : Int64).toInt32), (0, .ref T), (1, .long x1), (3, .int x3), (4, .int x4), (5, .int x5)]) 17 30 rfl rfl (Nat.le_of_ble_eq_true rfl) rfl ?_
    refine p_iload 18 32 4 rfl rfl rfl ?_
    refine p_if_eq 19 35 58 rfl rfl rfl (fun c2 => ?_) (fun c2 => ?_)
    · refine p_iconst 30 59 rfl rfl ci_0 ?_
      exact p_sub [1, 2, 3, 5, 0] rfl (k3 c1 c2)
    · refine p_iload 20 37 0 rfl rfl rfl ?_
      refine p_if_eq 21 40 54 rfl rfl rfl (fun c3 => ?_) (fun c3 => ?_)
      · refine p_iconst 28 55 rfl rfl ci_1 ?_
        refine p_goto 29 59 rfl rfl ?_
        exact p_sub [1, 2, 3, 5, 0] rfl (k4 c1 c2 c3)
      · refine p_iload 22 42 0 rfl rfl rfl ?_
        refine p_bipush 23 44 rfl rfl cb_32 ?_
        refine p_icmp_lt 24 47 58 rfl rfl rfl (fun c4 => ?_) (fun c4 => ?_)
        · refine p_iconst 30 59 rfl rfl ci_0 ?_
          exact p_sub [1, 2, 3, 5, 0] rfl (k5 c1 c2 c3 c4)
        · refine p_iload 25 49 0 rfl rfl rfl ?_
          refine p_bipush 26 51 rfl rfl cb_126 ?_
          refine p_icmp_gt 27 54 58 rfl rfl rfl (fun c5 => ?_) (fun c5 => ?_)
          · refine p_iconst 30 59 rfl rfl ci_0 ?_
            exact p_sub [1, 2, 3, 5, 0] rfl (k6 c1 c2 c3 c4 c5)
          · refine p_iconst 28 55 rfl rfl ci_1 ?_
            refine p_goto 29 59 rfl rfl ?_
            exact p_sub [1, 2, 3, 5, 0] rfl (k7 c1 c2 c3 c4 c5)
theorem b_say_59 {G : Gm} {T : Nat} {w : Wd} {σ : TW} {Q : Option Value → TW → Prop} {x1 : Int64} {x3 : Int32} {x5 : Int32} {x6 : Int32} {s0 : Int32} (k1 : ¬ x6 = 0 → Tn G T w mX2_say 14 [(0, .ref T), (1, .long x1), (3, .int (x3 + 1)), (4, .int s0), (5, .int (x5 + (-8)))] [] σ Q) (k2 : x6 = 0 → Tn G T w mX2_say 14 [(0, .ref T), (1, .long x1), (3, .int (x3 + 0)), (4, .int s0), (5, .int (x5 + (-8)))] [] σ Q) : Tn G T w mX2_say 59 [(0, .ref T), (1, .long x1), (3, .int x3), (5, .int x5), (6, .int x6)] [.int s0] σ Q := by
  refine p_istore (lv' := [(4, .int s0), (0, .ref T), (1, .long x1), (3, .int x3), (5, .int x5), (6, .int x6)]) 31 61 rfl rfl (Nat.le_of_ble_eq_true rfl) rfl ?_
  refine p_iload_n 32 62 3 rfl rfl rfl ?_
  refine p_iload 33 64 5 rfl rfl rfl ?_
  refine p_if_ne 34 67 71 rfl rfl rfl (fun c1 => ?_) (fun c1 => ?_)
  · refine p_iconst 37 72 rfl rfl ci_1 ?_
    refine p_iadd 38 73 rfl rfl ?_
    refine p_istore_n (lv' := [(3, .int (x3 + 1)), (4, .int s0), (0, .ref T), (1, .long x1), (5, .int x5), (6, .int x6)]) 39 74 rfl rfl (Nat.le_of_ble_eq_true rfl) rfl ?_
    refine p_iinc (v := (x5 + (-8))) (lv' := [(5, .int (x5 + (-8))), (3, .int (x3 + 1)), (4, .int s0), (0, .ref T), (1, .long x1), (6, .int x6)]) 40 77 4 rfl rfl rfl (congrArg (fun z => x5 + z) ci_m8) (Nat.le_of_ble_eq_true rfl) rfl ?_
    refine p_goto 41 14 rfl rfl ?_
    exact p_sub [3, 4, 1, 2, 0] rfl (k1 c1)
  · refine p_iconst 35 68 rfl rfl ci_0 ?_
    refine p_goto 36 72 rfl rfl ?_
    refine p_iadd 38 73 rfl rfl ?_
    refine p_istore_n (lv' := [(3, .int (x3 + 0)), (4, .int s0), (0, .ref T), (1, .long x1), (5, .int x5), (6, .int x6)]) 39 74 rfl rfl (Nat.le_of_ble_eq_true rfl) rfl ?_
    refine p_iinc (v := (x5 + (-8))) (lv' := [(5, .int (x5 + (-8))), (3, .int (x3 + 0)), (4, .int s0), (0, .ref T), (1, .long x1), (6, .int x6)]) 40 77 4 rfl rfl rfl (congrArg (fun z => x5 + z) ci_m8) (Nat.le_of_ble_eq_true rfl) rfl ?_
    refine p_goto 41 14 rfl rfl ?_
    exact p_sub [3, 4, 1, 2, 0] rfl (k2 c1)
theorem b_say_95 {G : Gm} {T : Nat} {w : Wd} {σ : TW} {Q : Option Value → TW → Prop} {x1 : Int64} {x3 : Int32} {s0 : Int32} (k1 : ¬ s0 = 0 → Q (some (.int 0)) σ) {Q2 : Int32 → TW → Prop} (e2 : s0 = 0 → ((σ.1 1) + x3) ≤ 1200 → Tvi G T w mX2_fails (.ref T :: [.int 0, .int 2]) σ Q2) (k2 : s0 = 0 → ((σ.1 1) + x3) ≤ 1200 → ∀ (y2 : Int32) σ2, Q2 y2 σ2 → Tn G T w mX2_say 120 [(0, .ref T), (1, .long x1)] [.int y2] σ2 Q) {Q3 : Int32 → TW → Prop} (e3 : s0 = 0 → ¬ ((σ.1 1) + x3) ≤ 1200 → Tvi G T w mX2_fails (.ref T :: [.int 1, .int 2]) σ Q3) (k3 : s0 = 0 → ¬ ((σ.1 1) + x3) ≤ 1200 → ∀ (y3 : Int32) σ3, Q3 y3 σ3 → Tn G T w mX2_say 120 [(0, .ref T), (1, .long x1)] [.int y3] σ3 Q) : Tn G T w mX2_say 95 [(0, .ref T), (1, .long x1), (3, .int x3)] [.int s0] σ Q := by
  refine p_if_ne 50 98 123 rfl rfl rfl (fun c1 => ?_) (fun c1 => ?_)
  · refine p_iconst 64 124 rfl rfl ci_0 ?_
    exact t_iret 65 rfl rfl rfl (k1 c1)
  · refine p_aload_n 51 99 0 rfl rfl rfl ?_
    refine p_aload_n 52 100 0 rfl rfl rfl ?_
    refine t_geti (v := .int (σ.1 1)) fl_X2_79 53 103 rfl rfl rfl ?_
    refine p_iload_n 54 104 2 rfl rfl rfl ?_
    refine p_iadd 55 105 rfl rfl ?_
    refine p_sipush 56 108 rfl rfl cs_1200 ?_
    refine p_icmp_le 57 111 115 rfl rfl rfl (fun c2 => ?_) (fun c2 => ?_)
    · refine p_iconst 60 116 rfl rfl ci_0 ?_
      refine p_iconst 61 117 rfl rfl ci_2 ?_
      exact t_cVi lk_X2_75 62 120 rfl rfl (by decide) [.int 0, .int 2] rfl rfl (Nat.le_of_ble_eq_true rfl) (Nat.le_of_ble_eq_true rfl) (e2 c1 c2) (fun x σ1 h => p_sub [0, 1] rfl (k2 c1 c2 x σ1 h))
    · refine p_iconst 58 112 rfl rfl ci_1 ?_
      refine p_goto 59 116 rfl rfl ?_
      refine p_iconst 61 117 rfl rfl ci_2 ?_
      exact t_cVi lk_X2_75 62 120 rfl rfl (by decide) [.int 1, .int 2] rfl rfl (Nat.le_of_ble_eq_true rfl) (Nat.le_of_ble_eq_true rfl) (e3 c1 c2) (fun x σ1 h => p_sub [0, 1] rfl (k3 c1 c2 x σ1 h))
theorem b_say_120 {G : Gm} {T : Nat} {w : Wd} {σ : TW} {Q : Option Value → TW → Prop} {x1 : Int64} {s0 : Int32} (k1 : s0 = 0 → Tn G T w mX2_say 129 [(0, .ref T), (1, .long x1), (5, .int 56)] [] σ Q) (k2 : ¬ s0 = 0 → Q (some (.int 0)) σ) : Tn G T w mX2_say 120 [(0, .ref T), (1, .long x1)] [.int s0] σ Q := by
  refine p_if_eq 63 123 125 rfl rfl rfl (fun c1 => ?_) (fun c1 => ?_)
  · refine p_bipush 66 127 rfl rfl cb_56 ?_
    refine p_istore (lv' := [(5, .int 56), (0, .ref T), (1, .long x1)]) 67 129 rfl rfl (Nat.le_of_ble_eq_true rfl) rfl ?_
    exact p_sub [1, 2, 0] rfl (k1 c1)
  · refine p_iconst 64 124 rfl rfl ci_0 ?_
    exact t_iret 65 rfl rfl rfl (k2 c1)
theorem b_say_129 {G : Gm} {T : Nat} {w : Wd} {σ : TW} {Q : Option Value → TW → Prop} {x1 : Int64} {x5 : Int32} (k1 : x5 < 0 → Q (some (.int (σ.1 1))) σ) (k2 : ¬ x5 < 0 → (((x1 >>> ((x5 : Int32).toInt64 &&& 63)) &&& 255) : Int64).toInt32 ≤ 0 → Tn G T w mX2_say 129 [(0, .ref T), (1, .long x1), (5, .int (x5 + (-8)))] [] σ Q) (b1 : ¬ x5 < 0 → ¬ (((x1 >>> ((x5 : Int32).toInt64 &&& 63)) &&& 255) : Int64).toInt32 ≤ 0 → vp_in (σ.1 1) 1200) (k3 : ¬ x5 < 0 → ¬ (((x1 >>> ((x5 : Int32).toInt64 &&& 63)) &&& 255) : Int64).toInt32 ≤ 0 → Tn G T w mX2_say 129 [(0, .ref T), (1, .long x1), (5, .int (x5 + (-8)))] [] (tsI (tsA σ 2 ((σ.1 1) : Int32).toNatClampNeg (((x1 >>> ((x5 : Int32).toInt64 &&& 63)) &&& 255) : Int64).toInt32) 1 ((σ.1 1) + 1)) Q) : Tn G T w mX2_say 129 [(0, .ref T), (1, .long x1), (5, .int x5)] [] σ Q := by
  refine p_iload 68 131 2 rfl rfl rfl ?_
  refine p_if_lt 69 134 177 rfl rfl rfl (fun c1 => ?_) (fun c1 => ?_)
  · refine p_aload_n 93 178 0 rfl rfl rfl ?_
    refine t_geti (v := .int (σ.1 1)) fl_X2_79 94 181 rfl rfl rfl ?_
    exact t_iret 95 rfl rfl rfl (k1 c1)
  · refine p_lload_n 70 135 1 rfl rfl rfl ?_
    refine p_iload 71 137 2 rfl rfl rfl ?_
    refine p_lshr 72 138 rfl rfl ?_
    refine p_ldc2 q2030 73 141 rfl rfl ?_
    refine p_land 74 142 rfl rfl ?_
    refine p_l2i 75 143 rfl rfl ?_
    refine p_istore (lv' := [(6, .int (((x1 >>> ((x5 : Int32).toInt64 &&& 63)) &&& 255) : Int64).toInt32), (0, .ref T), (1, .long x1), (5, .int x5)]) 76 145 rfl rfl (Nat.le_of_ble_eq_true rfl) rfl ?_
    refine p_iload 77 147 0 rfl rfl rfl ?_
    refine p_if_le 78 150 171 rfl rfl rfl (fun c2 => ?_) (fun c2 => ?_)
    · refine p_iinc (v := (x5 + (-8))) (lv' := [(5, .int (x5 + (-8))), (6, .int (((x1 >>> ((x5 : Int32).toInt64 &&& 63)) &&& 255) : Int64).toInt32), (0, .ref T), (1, .long x1)]) 91 174 3 rfl rfl rfl (congrArg (fun z => x5 + z) ci_m8) (Nat.le_of_ble_eq_true rfl) rfl ?_
      refine p_goto 92 129 rfl rfl ?_
      exact p_sub [2, 3, 0] rfl (k2 c1 c2)
    · refine p_aload_n 79 151 1 rfl rfl rfl ?_
      refine t_geti (v := .ref (T + 1)) fl_X2_7 80 154 rfl rfl rfl ?_
      refine p_aload_n 81 155 1 rfl rfl rfl ?_
      refine t_geti (v := .int (σ.1 1)) fl_X2_79 82 158 rfl rfl rfl ?_
      refine p_iload 83 160 0 rfl rfl rfl ?_
      refine t_iast (d := 1) (f := 2) 84 161 rfl rfl td_1 rfl tf_2 (b1 c1 c2) ?_
      refine p_aload_n 85 162 1 rfl rfl rfl ?_
      refine p_dup 86 163 rfl rfl rfl ?_
      refine t_geti (v := .int (σ.1 1)) fl_X2_79 87 166 rfl rfl rfl ?_
      refine p_iconst 88 167 rfl rfl ci_1 ?_
      refine p_iadd 89 168 rfl rfl ?_
      refine t_puti fl_X2_79 90 171 rfl rfl rfl rfl (by decide) (tws_1 _ _ _) ?_
      refine p_iinc (v := (x5 + (-8))) (lv' := [(5, .int (x5 + (-8))), (6, .int (((x1 >>> ((x5 : Int32).toInt64 &&& 63)) &&& 255) : Int64).toInt32), (0, .ref T), (1, .long x1)]) 91 174 3 rfl rfl rfl (congrArg (fun z => x5 + z) ci_m8) (Nat.le_of_ble_eq_true rfl) rfl ?_
      refine p_goto 92 129 rfl rfl ?_
      exact p_sub [2, 3, 0] rfl (k3 c1 c2)
theorem b_fails_0 {G : Gm} {T : Nat} {w : Wd} {σ : TW} {Q : Option Value → TW → Prop} {x1 : Int32} {x2 : Int32} (k1 : ¬ (σ.1 0) = 0 → (σ.1 0) ≤ 0 → Q (some (.int 0)) σ) (k2 : ¬ (σ.1 0) = 0 → ¬ (σ.1 0) ≤ 0 → Q (some (.int 1)) σ) (k3 : (σ.1 0) = 0 → x1 = 0 → (σ.1 0) ≤ 0 → Q (some (.int 0)) σ) (k4 : (σ.1 0) = 0 → x1 = 0 → ¬ (σ.1 0) ≤ 0 → Q (some (.int 1)) σ) (k5 : (σ.1 0) = 0 → ¬ x1 = 0 → x2 ≤ 0 → Q (some (.int 0)) (tsI σ 0 x2)) (k6 : (σ.1 0) = 0 → ¬ x1 = 0 → ¬ x2 ≤ 0 → Q (some (.int 1)) (tsI σ 0 x2)) : Tn G T w mX2_fails 0 [(0, .ref T), (1, .int x1), (2, .int x2)] [] σ Q := by
  refine p_aload_n 0 1 0 rfl rfl rfl ?_
  refine t_geti (v := .int (σ.1 0)) fl_X2_69 1 4 rfl rfl rfl ?_
  refine p_if_ne 2 7 16 rfl rfl rfl (fun c1 => ?_) (fun c1 => ?_)
  · refine p_aload_n 8 17 0 rfl rfl rfl ?_
    refine t_geti (v := .int (σ.1 0)) fl_X2_69 9 20 rfl rfl rfl ?_
    refine p_if_le 10 23 27 rfl rfl rfl (fun c2 => ?_) (fun c2 => ?_)
    · refine p_iconst 13 28 rfl rfl ci_0 ?_
      exact t_iret 14 rfl rfl rfl (k1 c1 c2)
    · refine p_iconst 11 24 rfl rfl ci_1 ?_
      refine p_goto 12 28 rfl rfl ?_
      exact t_iret 14 rfl rfl rfl (k2 c1 c2)
  · refine p_iload_n 3 8 1 rfl rfl rfl ?_
    refine p_if_eq 4 11 16 rfl rfl rfl (fun c2 => ?_) (fun c2 => ?_)
    · refine p_aload_n 8 17 0 rfl rfl rfl ?_
      refine t_geti (v := .int (σ.1 0)) fl_X2_69 9 20 rfl rfl rfl ?_
      refine p_if_le 10 23 27 rfl rfl rfl (fun c3 => ?_) (fun c3 => ?_)
      · refine p_iconst 13 28 rfl rfl ci_0 ?_
        exact t_iret 14 rfl rfl rfl (k3 c1 c2 c3)
      · refine p_iconst 11 24 rfl rfl ci_1 ?_
        refine p_goto 12 28 rfl rfl ?_
        exact t_iret 14 rfl rfl rfl (k4 c1 c2 c3)
    · refine p_aload_n 5 12 0 rfl rfl rfl ?_
      refine p_iload_n 6 13 2 rfl rfl rfl ?_
      refine t_puti fl_X2_69 7 16 rfl rfl rfl rfl (by decide) (tws_0 _ _ _) ?_
      refine p_aload_n 8 17 0 rfl rfl rfl ?_
      refine t_geti (v := .int x2) fl_X2_69 9 20 rfl rfl rfl ?_
      refine p_if_le 10 23 27 rfl rfl rfl (fun c3 => ?_) (fun c3 => ?_)
      · refine p_iconst 13 28 rfl rfl ci_0 ?_
        exact t_iret 14 rfl rfl rfl (k5 c1 c2 c3)
      · refine p_iconst 11 24 rfl rfl ci_1 ?_
        refine p_goto 12 28 rfl rfl ?_
        exact t_iret 14 rfl rfl rfl (k6 c1 c2 c3)
theorem b_trim_0 {G : Gm} {T : Nat} {w : Wd} {σ : TW} {Q : Option Value → TW → Prop} {x1 : Int32} {Q1 : Int32 → TW → Prop} (e1 : x1 < 0 → Tvi G T w mX2_fails (.ref T :: [.int 1, .int 1]) (tsI σ 0 0) Q1) (k1 : x1 < 0 → ∀ (y1 : Int32) σ1, Q1 y1 σ1 → Tn G T w mX2_trim 27 [(0, .ref T), (1, .int x1)] [.int y1] σ1 Q) {Q2 : Int32 → TW → Prop} (e2 : ¬ x1 < 0 → x1 ≤ (σ.1 1) → Tvi G T w mX2_fails (.ref T :: [.int 0, .int 1]) (tsI σ 0 0) Q2) (k2 : ¬ x1 < 0 → x1 ≤ (σ.1 1) → ∀ (y2 : Int32) σ2, Q2 y2 σ2 → Tn G T w mX2_trim 27 [(0, .ref T), (1, .int x1)] [.int y2] σ2 Q) {Q3 : Int32 → TW → Prop} (e3 : ¬ x1 < 0 → ¬ x1 ≤ (σ.1 1) → Tvi G T w mX2_fails (.ref T :: [.int 1, .int 1]) (tsI σ 0 0) Q3) (k3 : ¬ x1 < 0 → ¬ x1 ≤ (σ.1 1) → ∀ (y3 : Int32) σ3, Q3 y3 σ3 → Tn G T w mX2_trim 27 [(0, .ref T), (1, .int x1)] [.int y3] σ3 Q) : Tn G T w mX2_trim 0 [(0, .ref T), (1, .int x1)] [] σ Q := by
  refine p_aload_n 0 1 0 rfl rfl rfl ?_
  refine p_iconst 1 2 rfl rfl ci_0 ?_
  refine t_puti fl_X2_69 2 5 rfl rfl rfl rfl (by decide) (tws_0 _ _ _) ?_
  refine p_aload_n 3 6 0 rfl rfl rfl ?_
  refine p_iload_n 4 7 1 rfl rfl rfl ?_
  refine p_if_lt 5 10 18 rfl rfl rfl (fun c1 => ?_) (fun c1 => ?_)
  · refine p_iconst 10 19 rfl rfl ci_1 ?_
    refine p_goto 11 23 rfl rfl ?_
    refine p_iconst 13 24 rfl rfl ci_1 ?_
    exact t_cVi lk_X2_75 14 27 rfl rfl (by decide) [.int 1, .int 1] rfl rfl (Nat.le_of_ble_eq_true rfl) (Nat.le_of_ble_eq_true rfl) (e1 c1) (fun x σ1 h => k1 c1 x σ1 h)
  · refine p_iload_n 6 11 1 rfl rfl rfl ?_
    refine p_aload_n 7 12 0 rfl rfl rfl ?_
    refine t_geti (v := .int (σ.1 1)) fl_X2_79 8 15 rfl rfl rfl ?_
    refine p_icmp_le 9 18 22 rfl rfl rfl (fun c2 => ?_) (fun c2 => ?_)
    · refine p_iconst 12 23 rfl rfl ci_0 ?_
      refine p_iconst 13 24 rfl rfl ci_1 ?_
      exact t_cVi lk_X2_75 14 27 rfl rfl (by decide) [.int 0, .int 1] rfl rfl (Nat.le_of_ble_eq_true rfl) (Nat.le_of_ble_eq_true rfl) (e2 c1 c2) (fun x σ1 h => k2 c1 c2 x σ1 h)
    · refine p_iconst 10 19 rfl rfl ci_1 ?_
      refine p_goto 11 23 rfl rfl ?_
      refine p_iconst 13 24 rfl rfl ci_1 ?_
      exact t_cVi lk_X2_75 14 27 rfl rfl (by decide) [.int 1, .int 1] rfl rfl (Nat.le_of_ble_eq_true rfl) (Nat.le_of_ble_eq_true rfl) (e3 c1 c2) (fun x σ1 h => k3 c1 c2 x σ1 h)
theorem b_trim_27 {G : Gm} {T : Nat} {w : Wd} {σ : TW} {Q : Option Value → TW → Prop} {x1 : Int32} {s0 : Int32} (k1 : s0 = 0 → Q (some (.int ((σ.1 1) - x1))) (tsI σ 1 ((σ.1 1) - x1))) (k2 : ¬ s0 = 0 → Q (some (.int 0)) σ) : Tn G T w mX2_trim 27 [(0, .ref T), (1, .int x1)] [.int s0] σ Q := by
  refine p_if_eq 15 30 32 rfl rfl rfl (fun c1 => ?_) (fun c1 => ?_)
  · refine p_aload_n 18 33 0 rfl rfl rfl ?_
    refine p_dup 19 34 rfl rfl rfl ?_
    refine t_geti (v := .int (σ.1 1)) fl_X2_79 20 37 rfl rfl rfl ?_
    refine p_iload_n 21 38 1 rfl rfl rfl ?_
    refine p_isub 22 39 rfl rfl ?_
    refine t_puti fl_X2_79 23 42 rfl rfl rfl rfl (by decide) (tws_1 _ _ _) ?_
    refine p_aload_n 24 43 0 rfl rfl rfl ?_
    refine t_geti (v := .int ((σ.1 1) - x1)) fl_X2_79 25 46 rfl rfl rfl ?_
    exact t_iret 26 rfl rfl rfl (k1 c1)
  · refine p_iconst 16 31 rfl rfl ci_0 ?_
    exact t_iret 17 rfl rfl rfl (k2 c1)
theorem b_charAt_0 {G : Gm} {T : Nat} {w : Wd} {σ : TW} {Q : Option Value → TW → Prop} {x1 : Int32} {Q1 : Int32 → TW → Prop} (e1 : x1 < 0 → Tvi G T w mX2_fails (.ref T :: [.int 1, .int 1]) (tsI σ 0 0) Q1) (k1 : x1 < 0 → ∀ (y1 : Int32) σ1, Q1 y1 σ1 → Tn G T w mX2_charAt 27 [(0, .ref T), (1, .int x1)] [.int y1] σ1 Q) {Q2 : Int32 → TW → Prop} (e2 : ¬ x1 < 0 → x1 < (σ.1 1) → Tvi G T w mX2_fails (.ref T :: [.int 0, .int 1]) (tsI σ 0 0) Q2) (k2 : ¬ x1 < 0 → x1 < (σ.1 1) → ∀ (y2 : Int32) σ2, Q2 y2 σ2 → Tn G T w mX2_charAt 27 [(0, .ref T), (1, .int x1)] [.int y2] σ2 Q) {Q3 : Int32 → TW → Prop} (e3 : ¬ x1 < 0 → ¬ x1 < (σ.1 1) → Tvi G T w mX2_fails (.ref T :: [.int 1, .int 1]) (tsI σ 0 0) Q3) (k3 : ¬ x1 < 0 → ¬ x1 < (σ.1 1) → ∀ (y3 : Int32) σ3, Q3 y3 σ3 → Tn G T w mX2_charAt 27 [(0, .ref T), (1, .int x1)] [.int y3] σ3 Q) : Tn G T w mX2_charAt 0 [(0, .ref T), (1, .int x1)] [] σ Q := by
  refine p_aload_n 0 1 0 rfl rfl rfl ?_
  refine p_iconst 1 2 rfl rfl ci_0 ?_
  refine t_puti fl_X2_69 2 5 rfl rfl rfl rfl (by decide) (tws_0 _ _ _) ?_
  refine p_aload_n 3 6 0 rfl rfl rfl ?_
  refine p_iload_n 4 7 1 rfl rfl rfl ?_
  refine p_if_lt 5 10 18 rfl rfl rfl (fun c1 => ?_) (fun c1 => ?_)
  · refine p_iconst 10 19 rfl rfl ci_1 ?_
    refine p_goto 11 23 rfl rfl ?_
    refine p_iconst 13 24 rfl rfl ci_1 ?_
    exact t_cVi lk_X2_75 14 27 rfl rfl (by decide) [.int 1, .int 1] rfl rfl (Nat.le_of_ble_eq_true rfl) (Nat.le_of_ble_eq_true rfl) (e1 c1) (fun x σ1 h => k1 c1 x σ1 h)
  · refine p_iload_n 6 11 1 rfl rfl rfl ?_
    refine p_aload_n 7 12 0 rfl rfl rfl ?_
    refine t_geti (v := .int (σ.1 1)) fl_X2_79 8 15 rfl rfl rfl ?_
    refine p_icmp_lt 9 18 22 rfl rfl rfl (fun c2 => ?_) (fun c2 => ?_)
    · refine p_iconst 12 23 rfl rfl ci_0 ?_
      refine p_iconst 13 24 rfl rfl ci_1 ?_
      exact t_cVi lk_X2_75 14 27 rfl rfl (by decide) [.int 0, .int 1] rfl rfl (Nat.le_of_ble_eq_true rfl) (Nat.le_of_ble_eq_true rfl) (e2 c1 c2) (fun x σ1 h => k2 c1 c2 x σ1 h)
    · refine p_iconst 10 19 rfl rfl ci_1 ?_
      refine p_goto 11 23 rfl rfl ?_
      refine p_iconst 13 24 rfl rfl ci_1 ?_
      exact t_cVi lk_X2_75 14 27 rfl rfl (by decide) [.int 1, .int 1] rfl rfl (Nat.le_of_ble_eq_true rfl) (Nat.le_of_ble_eq_true rfl) (e3 c1 c2) (fun x σ1 h => k3 c1 c2 x σ1 h)
theorem b_charAt_27 {G : Gm} {T : Nat} {w : Wd} {σ : TW} {Q : Option Value → TW → Prop} {x1 : Int32} {s0 : Int32} (b1 : s0 = 0 → vp_in x1 1200) (k1 : s0 = 0 → Q (some (.int (σ.2.1 2 (x1 : Int32).toNatClampNeg))) σ) (k2 : ¬ s0 = 0 → Q (some (.int 0)) σ) : Tn G T w mX2_charAt 27 [(0, .ref T), (1, .int x1)] [.int s0] σ Q := by
  refine p_if_eq 15 30 34 rfl rfl rfl (fun c1 => ?_) (fun c1 => ?_)
  · refine p_aload_n 18 35 0 rfl rfl rfl ?_
    refine t_geti (v := .ref (T + 1)) fl_X2_7 19 38 rfl rfl rfl ?_
    refine p_iload_n 20 39 1 rfl rfl rfl ?_
    refine t_iald (d := 1) (f := 2) (v := (σ.2.1 2 (x1 : Int32).toNatClampNeg)) 21 40 rfl rfl td_1 rfl tf_2 (b1 c1) rfl ?_
    exact t_iret 22 rfl rfl rfl (k1 c1)
  · refine p_iconst 16 31 rfl rfl ci_0 ?_
    refine p_goto 17 40 rfl rfl ?_
    exact t_iret 22 rfl rfl rfl (k2 c1)
theorem b_schema_0 {G : Gm} {T : Nat} {w : Wd} {σ : TW} {Q : Option Value → TW → Prop} (b1 : vp_in 1 2) (k1 : Tn G T w mX2_schema 22 [(0, .ref T)] [] (tsA (tsI (tsI (tsI σ 0 0) 18 0) 19 (-1)) 4 (1 : Int32).toNatClampNeg 0) Q) : Tn G T w mX2_schema 0 [(0, .ref T)] [] σ Q := by
  refine p_aload_n 0 1 0 rfl rfl rfl ?_
  refine p_iconst 1 2 rfl rfl ci_0 ?_
  refine t_puti fl_X2_69 2 5 rfl rfl rfl rfl (by decide) (tws_0 _ _ _) ?_
  refine p_aload_n 3 6 0 rfl rfl rfl ?_
  refine p_iconst 4 7 rfl rfl ci_0 ?_
  refine t_puti fl_X2_82 5 10 rfl rfl rfl rfl (by decide) (tws_18 _ _ _) ?_
  refine p_aload_n 6 11 0 rfl rfl rfl ?_
  refine p_iconst 7 12 rfl rfl ci_m1 ?_
  refine t_puti fl_X2_85 8 15 rfl rfl rfl rfl (by decide) (tws_19 _ _ _) ?_
  refine p_aload_n 9 16 0 rfl rfl rfl ?_
  refine t_geti (v := .ref (T + 3)) fl_X2_16 10 19 rfl rfl rfl ?_
  refine p_iconst 11 20 rfl rfl ci_1 ?_
  refine p_iconst 12 21 rfl rfl ci_0 ?_
  refine t_iast (d := 3) (f := 4) 13 22 rfl rfl td_3 rfl tf_4 b1 ?_
  exact k1 
theorem b_schema_22 {G : Gm} {T : Nat} {w : Wd} {σ : TW} {Q : Option Value → TW → Prop} (b1 : ¬ (σ.1 19) = (-1) → (σ.1 19) = (-1) → vp_in 1 2) (b2 : ¬ (σ.1 19) = (-1) → (σ.1 19) = (-1) → vp_in 0 2) (k1 : ¬ (σ.1 19) = (-1) → (σ.1 19) = (-1) → Tn G T w mX2_schema 73 [(0, .ref T), (1, .int 0)] [] (tsA σ 4 (0 : Int32).toNatClampNeg (σ.2.1 4 (1 : Int32).toNatClampNeg)) Q) (k2 : ¬ (σ.1 19) = (-1) → ¬ (σ.1 19) = (-1) → Q (some (.int ((-1) - (σ.1 19)))) σ) {Q3 : Int32 → TW → Prop} (e3 : (σ.1 19) = (-1) → Tvi G T w mX2_peek (.ref T :: []) σ Q3) (k3 : (σ.1 19) = (-1) → ∀ (y3 : Int32) σ3, Q3 y3 σ3 → Tn G T w mX2_schema 34 [(0, .ref T)] [.int y3] σ3 Q) : Tn G T w mX2_schema 22 [(0, .ref T)] [] σ Q := by
  refine p_aload_n 14 23 0 rfl rfl rfl ?_
  refine t_geti (v := .int (σ.1 19)) fl_X2_85 15 26 rfl rfl rfl ?_
  refine p_iconst 16 27 rfl rfl ci_m1 ?_
  refine p_icmp_ne 17 30 44 rfl rfl rfl (fun c1 => ?_) (fun c1 => ?_)
  · refine p_aload_n 24 45 0 rfl rfl rfl ?_
    refine t_geti (v := .int (σ.1 19)) fl_X2_85 25 48 rfl rfl rfl ?_
    refine p_iconst 26 49 rfl rfl ci_m1 ?_
    refine p_icmp_eq 27 52 59 rfl rfl rfl (fun c2 => ?_) (fun c2 => ?_)
    · refine p_aload_n 33 60 0 rfl rfl rfl ?_
      refine t_geti (v := .ref (T + 3)) fl_X2_16 34 63 rfl rfl rfl ?_
      refine p_iconst 35 64 rfl rfl ci_0 ?_
      refine p_aload_n 36 65 0 rfl rfl rfl ?_
      refine t_geti (v := .ref (T + 3)) fl_X2_16 37 68 rfl rfl rfl ?_
      refine p_iconst 38 69 rfl rfl ci_1 ?_
      refine t_iald (d := 3) (f := 4) (v := (σ.2.1 4 (1 : Int32).toNatClampNeg)) 39 70 rfl rfl td_3 rfl tf_4 (b1 c1 c2) rfl ?_
      refine t_iast (d := 3) (f := 4) 40 71 rfl rfl td_3 rfl tf_4 (b2 c1 c2) ?_
      refine p_iconst 41 72 rfl rfl ci_0 ?_
      refine p_istore_n (lv' := [(1, .int 0), (0, .ref T)]) 42 73 rfl rfl (Nat.le_of_ble_eq_true rfl) rfl ?_
      exact p_sub [1, 0] rfl (k1 c1 c2)
    · refine p_iconst 28 53 rfl rfl ci_m1 ?_
      refine p_aload_n 29 54 0 rfl rfl rfl ?_
      refine t_geti (v := .int (σ.1 19)) fl_X2_85 30 57 rfl rfl rfl ?_
      refine p_isub 31 58 rfl rfl ?_
      exact t_iret 32 rfl rfl rfl (k2 c1 c2)
  · refine p_aload_n 18 31 0 rfl rfl rfl ?_
    exact t_cVi lk_X2_88 19 34 rfl rfl (by decide) [] rfl rfl (Nat.le_of_ble_eq_true rfl) (Nat.le_of_ble_eq_true rfl) (e3 c1) (fun x σ1 h => k3 c1 x σ1 h)
theorem b_schema_34 {G : Gm} {T : Nat} {w : Wd} {σ : TW} {Q : Option Value → TW → Prop} {s0 : Int32} (b1 : s0 = 0 → (σ.1 19) = (-1) → vp_in 1 2) (b2 : s0 = 0 → (σ.1 19) = (-1) → vp_in 0 2) (k1 : s0 = 0 → (σ.1 19) = (-1) → Tn G T w mX2_schema 73 [(0, .ref T), (1, .int 0)] [] (tsA σ 4 (0 : Int32).toNatClampNeg (σ.2.1 4 (1 : Int32).toNatClampNeg)) Q) (k2 : s0 = 0 → ¬ (σ.1 19) = (-1) → Q (some (.int ((-1) - (σ.1 19)))) σ) {Q3 : TW → Prop} (e3 : ¬ s0 = 0 → Tvv G T w mX2_kind (.ref T :: []) σ Q3) (k3 : ¬ s0 = 0 → ∀ σ3, Q3 σ3 → Tn G T w mX2_schema 41 [(0, .ref T)] [] σ3 Q) : Tn G T w mX2_schema 34 [(0, .ref T)] [.int s0] σ Q := by
  refine p_if_eq 20 37 44 rfl rfl rfl (fun c1 => ?_) (fun c1 => ?_)
  · refine p_aload_n 24 45 0 rfl rfl rfl ?_
    refine t_geti (v := .int (σ.1 19)) fl_X2_85 25 48 rfl rfl rfl ?_
    refine p_iconst 26 49 rfl rfl ci_m1 ?_
    refine p_icmp_eq 27 52 59 rfl rfl rfl (fun c2 => ?_) (fun c2 => ?_)
    · refine p_aload_n 33 60 0 rfl rfl rfl ?_
      refine t_geti (v := .ref (T + 3)) fl_X2_16 34 63 rfl rfl rfl ?_
      refine p_iconst 35 64 rfl rfl ci_0 ?_
      refine p_aload_n 36 65 0 rfl rfl rfl ?_
      refine t_geti (v := .ref (T + 3)) fl_X2_16 37 68 rfl rfl rfl ?_
      refine p_iconst 38 69 rfl rfl ci_1 ?_
      refine t_iald (d := 3) (f := 4) (v := (σ.2.1 4 (1 : Int32).toNatClampNeg)) 39 70 rfl rfl td_3 rfl tf_4 (b1 c1 c2) rfl ?_
      refine t_iast (d := 3) (f := 4) 40 71 rfl rfl td_3 rfl tf_4 (b2 c1 c2) ?_
      refine p_iconst 41 72 rfl rfl ci_0 ?_
      refine p_istore_n (lv' := [(1, .int 0), (0, .ref T)]) 42 73 rfl rfl (Nat.le_of_ble_eq_true rfl) rfl ?_
      exact p_sub [1, 0] rfl (k1 c1 c2)
    · refine p_iconst 28 53 rfl rfl ci_m1 ?_
      refine p_aload_n 29 54 0 rfl rfl rfl ?_
      refine t_geti (v := .int (σ.1 19)) fl_X2_85 30 57 rfl rfl rfl ?_
      refine p_isub 31 58 rfl rfl ?_
      exact t_iret 32 rfl rfl rfl (k2 c1 c2)
  · refine p_aload_n 21 38 0 rfl rfl rfl ?_
    exact t_cVv lk_X2_125 22 41 rfl rfl (by decide) [] rfl rfl (Nat.le_of_ble_eq_true rfl) (Nat.le_of_ble_eq_true rfl) (e3 c1) (fun σ1 h => k3 c1 σ1 h)
theorem b_schema_41 {G : Gm} {T : Nat} {w : Wd} {σ : TW} {Q : Option Value → TW → Prop} (k1 : Tn G T w mX2_schema 22 [(0, .ref T)] [] σ Q) : Tn G T w mX2_schema 41 [(0, .ref T)] [] σ Q := by
  refine p_goto 23 22 rfl rfl ?_
  exact k1 
theorem b_schema_73 {G : Gm} {T : Nat} {w : Wd} {σ : TW} {Q : Option Value → TW → Prop} {x1 : Int32} (b1 : (12 : Int32) ≤ x1 → vp_in 0 2) (k1 : (12 : Int32) ≤ x1 → Q (some (.int (σ.2.1 4 (0 : Int32).toNatClampNeg))) (tsI σ 1 0)) (b2 : ¬ (12 : Int32) ≤ x1 → vp_in (12 + x1) 24) (b3 : ¬ (12 : Int32) ≤ x1 → vp_in x1 24) (k2 : ¬ (12 : Int32) ≤ x1 → Tn G T w mX2_schema 111 [(0, .ref T), (1, .int x1), (2, .int 0)] [] (tsA (tsA σ 5 (x1 : Int32).toNatClampNeg (σ.2.1 5 ((12 + x1) : Int32).toNatClampNeg)) 7 (x1 : Int32).toNatClampNeg (σ.2.1 7 ((12 + x1) : Int32).toNatClampNeg)) Q) : Tn G T w mX2_schema 73 [(0, .ref T), (1, .int x1)] [] σ Q := by
  refine p_iload_n 43 74 1 rfl rfl rfl ?_
  refine p_bipush 44 76 rfl rfl cb_12 ?_
  refine p_icmp_ge 45 79 204 rfl rfl rfl (fun c1 => ?_) (fun c1 => ?_)
  · refine p_aload_n 129 205 0 rfl rfl rfl ?_
    refine p_iconst 130 206 rfl rfl ci_0 ?_
    refine t_puti fl_X2_79 131 209 rfl rfl rfl rfl (by decide) (tws_1 _ _ _) ?_
    refine p_aload_n 132 210 0 rfl rfl rfl ?_
    refine t_geti (v := .ref (T + 3)) fl_X2_16 133 213 rfl rfl rfl ?_
    refine p_iconst 134 214 rfl rfl ci_0 ?_
    refine t_iald (d := 3) (f := 4) (v := (σ.2.1 4 (0 : Int32).toNatClampNeg)) 135 215 rfl rfl td_3 rfl tf_4 (b1 c1) rfl ?_
    exact t_iret 136 rfl rfl rfl (k1 c1)
  · refine p_aload_n 46 80 0 rfl rfl rfl ?_
    refine t_geti (v := .ref (T + 4)) fl_X2_19 47 83 rfl rfl rfl ?_
    refine p_iload_n 48 84 1 rfl rfl rfl ?_
    refine p_aload_n 49 85 0 rfl rfl rfl ?_
    refine t_geti (v := .ref (T + 4)) fl_X2_19 50 88 rfl rfl rfl ?_
    refine p_bipush 51 90 rfl rfl cb_12 ?_
    refine p_iload_n 52 91 1 rfl rfl rfl ?_
    refine p_iadd 53 92 rfl rfl ?_
    refine t_iald (d := 4) (f := 5) (v := (σ.2.1 5 ((12 + x1) : Int32).toNatClampNeg)) 54 93 rfl rfl td_4 rfl tf_5 (b2 c1) rfl ?_
    refine t_iast (d := 4) (f := 5) 55 94 rfl rfl td_4 rfl tf_5 (b3 c1) ?_
    refine p_aload_n 56 95 0 rfl rfl rfl ?_
    refine t_geti (v := .ref (T + 6)) fl_X2_25 57 98 rfl rfl rfl ?_
    refine p_iload_n 58 99 1 rfl rfl rfl ?_
    refine p_aload_n 59 100 0 rfl rfl rfl ?_
    refine t_geti (v := .ref (T + 6)) fl_X2_25 60 103 rfl rfl rfl ?_
    refine p_bipush 61 105 rfl rfl cb_12 ?_
    refine p_iload_n 62 106 1 rfl rfl rfl ?_
    refine p_iadd 63 107 rfl rfl ?_
    refine t_iald (d := 6) (f := 7) (v := (σ.2.1 7 ((12 + x1) : Int32).toNatClampNeg)) 64 108 rfl rfl td_6 rfl tf_7 (b2 c1) rfl ?_
    refine t_iast (d := 6) (f := 7) 65 109 rfl rfl td_6 rfl tf_7 (b3 c1) ?_
    refine p_iconst 66 110 rfl rfl ci_0 ?_
    refine p_istore_n (lv' := [(2, .int 0), (0, .ref T), (1, .int x1)]) 67 111 rfl rfl (Nat.le_of_ble_eq_true rfl) rfl ?_
    exact p_sub [1, 2, 0] rfl (k2 c1)
theorem b_schema_111 {G : Gm} {T : Nat} {w : Wd} {σ : TW} {Q : Option Value → TW → Prop} {x1 : Int32} {x2 : Int32} (k1 : (8 : Int32) ≤ x2 → Tn G T w mX2_schema 73 [(0, .ref T), (1, .int (x1 + 1))] [] σ Q) (b1 : ¬ (8 : Int32) ≤ x2 → vp_in ((8 * (12 + x1)) + x2) 192) (b2 : ¬ (8 : Int32) ≤ x2 → vp_in ((8 * x1) + x2) 192) (b3 : ¬ (8 : Int32) ≤ x2 → narrow .boolean (.int (σ.2.1 9 (((8 * (12 + x1)) + x2) : Int32).toNatClampNeg)) = .int (σ.2.1 9 (((8 * (12 + x1)) + x2) : Int32).toNatClampNeg)) (k2 : ¬ (8 : Int32) ≤ x2 → Tn G T w mX2_schema 111 [(0, .ref T), (1, .int x1), (2, .int (x2 + 1))] [] (tsA (tsA (tsA σ 6 (((8 * x1) + x2) : Int32).toNatClampNeg (σ.2.1 6 (((8 * (12 + x1)) + x2) : Int32).toNatClampNeg)) 8 (((8 * x1) + x2) : Int32).toNatClampNeg (σ.2.1 8 (((8 * (12 + x1)) + x2) : Int32).toNatClampNeg)) 9 (((8 * x1) + x2) : Int32).toNatClampNeg (σ.2.1 9 (((8 * (12 + x1)) + x2) : Int32).toNatClampNeg)) Q) : Tn G T w mX2_schema 111 [(0, .ref T), (1, .int x1), (2, .int x2)] [] σ Q := by
  refine p_iload_n 68 112 2 rfl rfl rfl ?_
  refine p_bipush 69 114 rfl rfl cb_8 ?_
  refine p_icmp_ge 70 117 198 rfl rfl rfl (fun c1 => ?_) (fun c1 => ?_)
  · refine p_iinc (v := (x1 + 1)) (lv' := [(1, .int (x1 + 1)), (0, .ref T), (2, .int x2)]) 127 201 1 rfl rfl rfl (congrArg (fun z => x1 + z) ci_1) (Nat.le_of_ble_eq_true rfl) rfl ?_
    refine p_goto 128 73 rfl rfl ?_
    exact p_sub [1, 0] rfl (k1 c1)
  · refine p_aload_n 71 118 0 rfl rfl rfl ?_
    refine t_geti (v := .ref (T + 5)) fl_X2_22 72 121 rfl rfl rfl ?_
    refine p_bipush 73 123 rfl rfl cb_8 ?_
    refine p_iload_n 74 124 1 rfl rfl rfl ?_
    refine p_imul 75 125 rfl rfl ?_
    refine p_iload_n 76 126 2 rfl rfl rfl ?_
    refine p_iadd 77 127 rfl rfl ?_
    refine p_aload_n 78 128 0 rfl rfl rfl ?_
    refine t_geti (v := .ref (T + 5)) fl_X2_22 79 131 rfl rfl rfl ?_
    refine p_bipush 80 133 rfl rfl cb_8 ?_
    refine p_bipush 81 135 rfl rfl cb_12 ?_
    refine p_iload_n 82 136 1 rfl rfl rfl ?_
    refine p_iadd 83 137 rfl rfl ?_
    refine p_imul 84 138 rfl rfl ?_
    refine p_iload_n 85 139 2 rfl rfl rfl ?_
    refine p_iadd 86 140 rfl rfl ?_
    refine t_iald (d := 5) (f := 6) (v := (σ.2.1 6 (((8 * (12 + x1)) + x2) : Int32).toNatClampNeg)) 87 141 rfl rfl td_5 rfl tf_6 (b1 c1) rfl ?_
    refine t_iast (d := 5) (f := 6) 88 142 rfl rfl td_5 rfl tf_6 (b2 c1) ?_
    refine p_aload_n 89 143 0 rfl rfl rfl ?_
    refine t_geti (v := .ref (T + 7)) fl_X2_28 90 146 rfl rfl rfl ?_
    refine p_bipush 91 148 rfl rfl cb_8 ?_
    refine p_iload_n 92 149 1 rfl rfl rfl ?_
    refine p_imul 93 150 rfl rfl ?_
    refine p_iload_n 94 151 2 rfl rfl rfl ?_
    refine p_iadd 95 152 rfl rfl ?_
    refine p_aload_n 96 153 0 rfl rfl rfl ?_
    refine t_geti (v := .ref (T + 7)) fl_X2_28 97 156 rfl rfl rfl ?_
    refine p_bipush 98 158 rfl rfl cb_8 ?_
    refine p_bipush 99 160 rfl rfl cb_12 ?_
    refine p_iload_n 100 161 1 rfl rfl rfl ?_
    refine p_iadd 101 162 rfl rfl ?_
    refine p_imul 102 163 rfl rfl ?_
    refine p_iload_n 103 164 2 rfl rfl rfl ?_
    refine p_iadd 104 165 rfl rfl ?_
    refine t_iald (d := 7) (f := 8) (v := (σ.2.1 8 (((8 * (12 + x1)) + x2) : Int32).toNatClampNeg)) 105 166 rfl rfl td_7 rfl tf_8 (b1 c1) rfl ?_
    refine t_iast (d := 7) (f := 8) 106 167 rfl rfl td_7 rfl tf_8 (b2 c1) ?_
    refine p_aload_n 107 168 0 rfl rfl rfl ?_
    refine t_geti (v := .ref (T + 8)) fl_X2_31 108 171 rfl rfl rfl ?_
    refine p_bipush 109 173 rfl rfl cb_8 ?_
    refine p_iload_n 110 174 1 rfl rfl rfl ?_
    refine p_imul 111 175 rfl rfl ?_
    refine p_iload_n 112 176 2 rfl rfl rfl ?_
    refine p_iadd 113 177 rfl rfl ?_
    refine p_aload_n 114 178 0 rfl rfl rfl ?_
    refine t_geti (v := .ref (T + 8)) fl_X2_31 115 181 rfl rfl rfl ?_
    refine p_bipush 116 183 rfl rfl cb_8 ?_
    refine p_bipush 117 185 rfl rfl cb_12 ?_
    refine p_iload_n 118 186 1 rfl rfl rfl ?_
    refine p_iadd 119 187 rfl rfl ?_
    refine p_imul 120 188 rfl rfl ?_
    refine p_iload_n 121 189 2 rfl rfl rfl ?_
    refine p_iadd 122 190 rfl rfl ?_
    refine t_zald (v := (σ.2.1 9 (((8 * (12 + x1)) + x2) : Int32).toNatClampNeg)) 123 191 rfl rfl (b1 c1) rfl ?_
    refine t_zast 124 192 rfl rfl (b2 c1) (b3 c1) ?_
    refine p_iinc (v := (x2 + 1)) (lv' := [(2, .int (x2 + 1)), (0, .ref T), (1, .int x1)]) 125 195 2 rfl rfl rfl (congrArg (fun z => x2 + z) ci_1) (Nat.le_of_ble_eq_true rfl) rfl ?_
    refine p_goto 126 111 rfl rfl ?_
    exact p_sub [1, 2, 0] rfl (k2 c1)
theorem b_peek_0 {G : Gm} {T : Nat} {w : Wd} {σ : TW} {Q : Option Value → TW → Prop} (k1 : (σ.1 1) ≤ (σ.1 18) → (σ.1 1) ≤ (σ.1 18) → Q (some (.int 0)) σ) (b1 : (σ.1 1) ≤ (σ.1 18) → ¬ (σ.1 1) ≤ (σ.1 18) → vp_in (σ.1 18) 1200) (k2 : (σ.1 1) ≤ (σ.1 18) → ¬ (σ.1 1) ≤ (σ.1 18) → Q (some (.int (σ.2.1 2 ((σ.1 18) : Int32).toNatClampNeg))) σ) (b2 : ¬ (σ.1 1) ≤ (σ.1 18) → vp_in (σ.1 18) 1200) (k3 : ¬ (σ.1 1) ≤ (σ.1 18) → ¬ (σ.2.1 2 ((σ.1 18) : Int32).toNatClampNeg) = 32 → (σ.1 1) ≤ (σ.1 18) → Q (some (.int 0)) σ) (k4 : ¬ (σ.1 1) ≤ (σ.1 18) → ¬ (σ.2.1 2 ((σ.1 18) : Int32).toNatClampNeg) = 32 → ¬ (σ.1 1) ≤ (σ.1 18) → Q (some (.int (σ.2.1 2 ((σ.1 18) : Int32).toNatClampNeg))) σ) (k5 : ¬ (σ.1 1) ≤ (σ.1 18) → (σ.2.1 2 ((σ.1 18) : Int32).toNatClampNeg) = 32 → Tn G T w mX2_peek 0 [(0, .ref T)] [] (tsI σ 18 ((σ.1 18) + 1)) Q) : Tn G T w mX2_peek 0 [(0, .ref T)] [] σ Q := by
  refine p_aload_n 0 1 0 rfl rfl rfl ?_
  refine t_geti (v := .int (σ.1 18)) fl_X2_82 1 4 rfl rfl rfl ?_
  refine p_aload_n 2 5 0 rfl rfl rfl ?_
  refine t_geti (v := .int (σ.1 1)) fl_X2_79 3 8 rfl rfl rfl ?_
  refine p_icmp_ge 4 11 38 rfl rfl rfl (fun c1 => ?_) (fun c1 => ?_)
  · refine p_aload_n 19 39 0 rfl rfl rfl ?_
    refine t_geti (v := .int (σ.1 18)) fl_X2_82 20 42 rfl rfl rfl ?_
    refine p_aload_n 21 43 0 rfl rfl rfl ?_
    refine t_geti (v := .int (σ.1 1)) fl_X2_79 22 46 rfl rfl rfl ?_
    refine p_icmp_ge 23 49 61 rfl rfl rfl (fun c2 => ?_) (fun c2 => ?_)
    · refine p_iconst 30 62 rfl rfl ci_0 ?_
      exact t_iret 31 rfl rfl rfl (k1 c1 c2)
    · refine p_aload_n 24 50 0 rfl rfl rfl ?_
      refine t_geti (v := .ref (T + 1)) fl_X2_7 25 53 rfl rfl rfl ?_
      refine p_aload_n 26 54 0 rfl rfl rfl ?_
      refine t_geti (v := .int (σ.1 18)) fl_X2_82 27 57 rfl rfl rfl ?_
      refine t_iald (d := 1) (f := 2) (v := (σ.2.1 2 ((σ.1 18) : Int32).toNatClampNeg)) 28 58 rfl rfl td_1 rfl tf_2 (b1 c1 c2) rfl ?_
      refine p_goto 29 62 rfl rfl ?_
      exact t_iret 31 rfl rfl rfl (k2 c1 c2)
  · refine p_aload_n 5 12 0 rfl rfl rfl ?_
    refine t_geti (v := .ref (T + 1)) fl_X2_7 6 15 rfl rfl rfl ?_
    refine p_aload_n 7 16 0 rfl rfl rfl ?_
    refine t_geti (v := .int (σ.1 18)) fl_X2_82 8 19 rfl rfl rfl ?_
    refine t_iald (d := 1) (f := 2) (v := (σ.2.1 2 ((σ.1 18) : Int32).toNatClampNeg)) 9 20 rfl rfl td_1 rfl tf_2 (b2 c1) rfl ?_
    refine p_bipush 10 22 rfl rfl cb_32 ?_
    refine p_icmp_ne 11 25 38 rfl rfl rfl (fun c2 => ?_) (fun c2 => ?_)
    · refine p_aload_n 19 39 0 rfl rfl rfl ?_
      refine t_geti (v := .int (σ.1 18)) fl_X2_82 20 42 rfl rfl rfl ?_
      refine p_aload_n 21 43 0 rfl rfl rfl ?_
      refine t_geti (v := .int (σ.1 1)) fl_X2_79 22 46 rfl rfl rfl ?_
      refine p_icmp_ge 23 49 61 rfl rfl rfl (fun c3 => ?_) (fun c3 => ?_)
      · refine p_iconst 30 62 rfl rfl ci_0 ?_
        exact t_iret 31 rfl rfl rfl (k3 c1 c2 c3)
      · refine p_aload_n 24 50 0 rfl rfl rfl ?_
        refine t_geti (v := .ref (T + 1)) fl_X2_7 25 53 rfl rfl rfl ?_
        refine p_aload_n 26 54 0 rfl rfl rfl ?_
        refine t_geti (v := .int (σ.1 18)) fl_X2_82 27 57 rfl rfl rfl ?_
        refine t_iald (d := 1) (f := 2) (v := (σ.2.1 2 ((σ.1 18) : Int32).toNatClampNeg)) 28 58 rfl rfl td_1 rfl tf_2 (b2 c1) rfl ?_
        refine p_goto 29 62 rfl rfl ?_
        exact t_iret 31 rfl rfl rfl (k4 c1 c2 c3)
    · refine p_aload_n 12 26 0 rfl rfl rfl ?_
      refine p_dup 13 27 rfl rfl rfl ?_
      refine t_geti (v := .int (σ.1 18)) fl_X2_82 14 30 rfl rfl rfl ?_
      refine p_iconst 15 31 rfl rfl ci_1 ?_
      refine p_iadd 16 32 rfl rfl ?_
      refine t_puti fl_X2_82 17 35 rfl rfl rfl rfl (by decide) (tws_18 _ _ _) ?_
      refine p_goto 18 0 rfl rfl ?_
      exact k5 c1 c2
theorem b_kind_0 {G : Gm} {T : Nat} {w : Wd} {σ : TW} {Q : Option Value → TW → Prop} (b1 : vp_in 1 2) {Q1 : Int32 → TW → Prop} (e1 : ¬ (σ.2.1 4 (1 : Int32).toNatClampNeg) = 12 → Tvi G T w mX2_name (.ref T :: [.ref (T + 5), .int (8 * (12 + (σ.2.1 4 (1 : Int32).toNatClampNeg)))]) σ Q1) (k1 : ¬ (σ.2.1 4 (1 : Int32).toNatClampNeg) = 12 → ∀ (y1 : Int32) σ1, Q1 y1 σ1 → Tn G T w mX2_kind 47 [(0, .ref T), (1, .int (12 + (σ.2.1 4 (1 : Int32).toNatClampNeg)))] [.int y1, .int (12 + (σ.2.1 4 (1 : Int32).toNatClampNeg)), .ref (T + 4)] σ1 Q) {Q2 : TW → Prop} (e2 : (σ.2.1 4 (1 : Int32).toNatClampNeg) = 12 → Tvv G T w mX2_wrongAt (.ref T :: [.int (σ.1 18)]) σ Q2) (k2 : (σ.2.1 4 (1 : Int32).toNatClampNeg) = 12 → ∀ σ2, Q2 σ2 → Tn G T w mX2_kind 29 [] [] σ2 Q) : Tn G T w mX2_kind 0 [(0, .ref T)] [] σ Q := by
  refine p_bipush 0 2 rfl rfl cb_12 ?_
  refine p_aload_n 1 3 0 rfl rfl rfl ?_
  refine t_geti (v := .ref (T + 3)) fl_X2_16 2 6 rfl rfl rfl ?_
  refine p_iconst 3 7 rfl rfl ci_1 ?_
  refine t_iald (d := 3) (f := 4) (v := (σ.2.1 4 (1 : Int32).toNatClampNeg)) 4 8 rfl rfl td_3 rfl tf_4 b1 rfl ?_
  refine p_iadd 5 9 rfl rfl ?_
  refine p_istore_n (lv' := [(1, .int (12 + (σ.2.1 4 (1 : Int32).toNatClampNeg))), (0, .ref T)]) 6 10 rfl rfl (Nat.le_of_ble_eq_true rfl) rfl ?_
  refine p_aload_n 7 11 1 rfl rfl rfl ?_
  refine t_geti (v := .ref (T + 3)) fl_X2_16 8 14 rfl rfl rfl ?_
  refine p_iconst 9 15 rfl rfl ci_1 ?_
  refine t_iald (d := 3) (f := 4) (v := (σ.2.1 4 (1 : Int32).toNatClampNeg)) 10 16 rfl rfl td_3 rfl tf_4 b1 rfl ?_
  refine p_bipush 11 18 rfl rfl cb_12 ?_
  refine p_icmp_ne 12 21 30 rfl rfl rfl (fun c1 => ?_) (fun c1 => ?_)
  · refine p_aload_n 18 31 1 rfl rfl rfl ?_
    refine t_geti (v := .ref (T + 4)) fl_X2_19 19 34 rfl rfl rfl ?_
    refine p_iload_n 20 35 0 rfl rfl rfl ?_
    refine p_aload_n 21 36 1 rfl rfl rfl ?_
    refine p_aload_n 22 37 1 rfl rfl rfl ?_
    refine t_geti (v := .ref (T + 5)) fl_X2_22 23 40 rfl rfl rfl ?_
    refine p_bipush 24 42 rfl rfl cb_8 ?_
    refine p_iload_n 25 43 0 rfl rfl rfl ?_
    refine p_imul 26 44 rfl rfl ?_
    exact t_cVi lk_X2_113 27 47 rfl rfl (by decide) [.ref (T + 5), .int (8 * (12 + (σ.2.1 4 (1 : Int32).toNatClampNeg)))] rfl rfl (Nat.le_of_ble_eq_true rfl) (Nat.le_of_ble_eq_true rfl) (e1 c1) (fun x σ1 h => p_sub [1, 0] rfl (k1 c1 x σ1 h))
  · refine p_aload_n 13 22 1 rfl rfl rfl ?_
    refine p_aload_n 14 23 1 rfl rfl rfl ?_
    refine t_geti (v := .int (σ.1 18)) fl_X2_82 15 26 rfl rfl rfl ?_
    exact t_cVv lk_X2_92 16 29 rfl rfl (by decide) [.int (σ.1 18)] rfl rfl (Nat.le_of_ble_eq_true rfl) (Nat.le_of_ble_eq_true rfl) (e2 c1) (fun σ1 h => p_sub [] rfl (k2 c1 σ1 h))
theorem b_kind_29 {G : Gm} {T : Nat} {w : Wd} {σ : TW} {Q : Option Value → TW → Prop} (k1 : Q none σ) : Tn G T w mX2_kind 29 [] [] σ Q := by
  exact t_vret 17 rfl rfl (k1 )
theorem b_kind_47 {G : Gm} {T : Nat} {w : Wd} {σ : TW} {Q : Option Value → TW → Prop} {x1 : Int32} {s0 : Int32} {s1 : Int32} (b1 : vp_in s1 24) (k1 : Tn G T w mX2_kind 51 [(0, .ref T), (1, .int x1), (2, .int 12)] [] (tsA σ 5 (s1 : Int32).toNatClampNeg s0) Q) : Tn G T w mX2_kind 47 [(0, .ref T), (1, .int x1)] [.int s0, .int s1, .ref (T + 4)] σ Q := by
  refine t_iast (d := 4) (f := 5) 28 48 rfl rfl td_4 rfl tf_5 b1 ?_
  refine p_bipush 29 50 rfl rfl cb_12 ?_
  refine p_istore_n (lv' := [(2, .int 12), (0, .ref T), (1, .int x1)]) 30 51 rfl rfl (Nat.le_of_ble_eq_true rfl) rfl ?_
  exact p_sub [1, 2, 0] rfl (k1 )
theorem b_kind_51 {G : Gm} {T : Nat} {w : Wd} {σ : TW} {Q : Option Value → TW → Prop} {x1 : Int32} {x2 : Int32} {Q1 : TW → Prop} (e1 : x1 ≤ x2 → Tvv G T w mX2_sign (.ref T :: [.int 61]) σ Q1) (k1 : x1 ≤ x2 → ∀ σ1, Q1 σ1 → Tn G T w mX2_kind 119 [(0, .ref T), (1, .int x1)] [] σ1 Q) (b1 : ¬ x1 ≤ x2 → vp_in x2 24) (b2 : ¬ x1 ≤ x2 → vp_in x1 24) (k2 : ¬ x1 ≤ x2 → ¬ (σ.2.1 5 (x2 : Int32).toNatClampNeg) = (σ.2.1 5 (x1 : Int32).toNatClampNeg) → Tn G T w mX2_kind 107 [(0, .ref T), (1, .int x1), (2, .int x2)] [] σ Q) {Q3 : Int32 → TW → Prop} (e3 : ¬ x1 ≤ x2 → (σ.2.1 5 (x2 : Int32).toNatClampNeg) = (σ.2.1 5 (x1 : Int32).toNatClampNeg) → Tvi G T w mX2_isSame [.ref (T + 5), .int (8 * x2), .ref (T + 5), .int (8 * x1), .int (σ.2.1 5 (x1 : Int32).toNatClampNeg)] σ Q3) (k3 : ¬ x1 ≤ x2 → (σ.2.1 5 (x2 : Int32).toNatClampNeg) = (σ.2.1 5 (x1 : Int32).toNatClampNeg) → ∀ (y3 : Int32) σ3, Q3 y3 σ3 → Tn G T w mX2_kind 96 [(0, .ref T), (1, .int x1), (2, .int x2)] [.int y3] σ3 Q) : Tn G T w mX2_kind 51 [(0, .ref T), (1, .int x1), (2, .int x2)] [] σ Q := by
  refine p_iload_n 31 52 2 rfl rfl rfl ?_
  refine p_iload_n 32 53 1 rfl rfl rfl ?_
  refine p_icmp_ge 33 56 113 rfl rfl rfl (fun c1 => ?_) (fun c1 => ?_)
  · refine p_aload_n 65 114 0 rfl rfl rfl ?_
    refine p_bipush 66 116 rfl rfl cb_61 ?_
    exact t_cVv lk_X2_110 67 119 rfl rfl (by decide) [.int 61] rfl rfl (Nat.le_of_ble_eq_true rfl) (Nat.le_of_ble_eq_true rfl) (e1 c1) (fun σ1 h => p_sub [0, 1] rfl (k1 c1 σ1 h))
  · refine p_aload_n 34 57 0 rfl rfl rfl ?_
    refine t_geti (v := .ref (T + 4)) fl_X2_19 35 60 rfl rfl rfl ?_
    refine p_iload_n 36 61 2 rfl rfl rfl ?_
    refine t_iald (d := 4) (f := 5) (v := (σ.2.1 5 (x2 : Int32).toNatClampNeg)) 37 62 rfl rfl td_4 rfl tf_5 (b1 c1) rfl ?_
    refine p_aload_n 38 63 0 rfl rfl rfl ?_
    refine t_geti (v := .ref (T + 4)) fl_X2_19 39 66 rfl rfl rfl ?_
    refine p_iload_n 40 67 1 rfl rfl rfl ?_
    refine t_iald (d := 4) (f := 5) (v := (σ.2.1 5 (x1 : Int32).toNatClampNeg)) 41 68 rfl rfl td_4 rfl tf_5 (b2 c1) rfl ?_
    refine p_icmp_ne 42 71 107 rfl rfl rfl (fun c2 => ?_) (fun c2 => ?_)
    · exact k2 c1 c2
    · refine p_aload_n 43 72 0 rfl rfl rfl ?_
      refine t_geti (v := .ref (T + 5)) fl_X2_22 44 75 rfl rfl rfl ?_
      refine p_bipush 45 77 rfl rfl cb_8 ?_
      refine p_iload_n 46 78 2 rfl rfl rfl ?_
      refine p_imul 47 79 rfl rfl ?_
      refine p_aload_n 48 80 0 rfl rfl rfl ?_
      refine t_geti (v := .ref (T + 5)) fl_X2_22 49 83 rfl rfl rfl ?_
      refine p_bipush 50 85 rfl rfl cb_8 ?_
      refine p_iload_n 51 86 1 rfl rfl rfl ?_
      refine p_imul 52 87 rfl rfl ?_
      refine p_aload_n 53 88 0 rfl rfl rfl ?_
      refine t_geti (v := .ref (T + 4)) fl_X2_19 54 91 rfl rfl rfl ?_
      refine p_iload_n 55 92 1 rfl rfl rfl ?_
      refine t_iald (d := 4) (f := 5) (v := (σ.2.1 5 (x1 : Int32).toNatClampNeg)) 56 93 rfl rfl td_4 rfl tf_5 (b2 c1) rfl ?_
      exact t_cTi lk_X2_117 57 96 rfl rfl (by decide) [.ref (T + 5), .int (8 * x2), .ref (T + 5), .int (8 * x1), .int (σ.2.1 5 (x1 : Int32).toNatClampNeg)] rfl rfl (Nat.le_of_ble_eq_true rfl) (Nat.le_of_ble_eq_true rfl) (e3 c1 c2) (fun x σ1 h => k3 c1 c2 x σ1 h)
theorem b_kind_96 {G : Gm} {T : Nat} {w : Wd} {σ : TW} {Q : Option Value → TW → Prop} {x1 : Int32} {x2 : Int32} {s0 : Int32} (k1 : s0 = 0 → Tn G T w mX2_kind 107 [(0, .ref T), (1, .int x1), (2, .int x2)] [] σ Q) {Q2 : TW → Prop} (e2 : ¬ s0 = 0 → Tvv G T w mX2_wrongAt (.ref T :: [.int (σ.1 20)]) σ Q2) (k2 : ¬ s0 = 0 → ∀ σ2, Q2 σ2 → Tn G T w mX2_kind 107 [(0, .ref T), (1, .int x1), (2, .int x2)] [] σ2 Q) : Tn G T w mX2_kind 96 [(0, .ref T), (1, .int x1), (2, .int x2)] [.int s0] σ Q := by
  refine p_if_eq 58 99 107 rfl rfl rfl (fun c1 => ?_) (fun c1 => ?_)
  · exact k1 c1
  · refine p_aload_n 59 100 0 rfl rfl rfl ?_
    refine p_aload_n 60 101 0 rfl rfl rfl ?_
    refine t_geti (v := .int (σ.1 20)) fl_X2_96 61 104 rfl rfl rfl ?_
    exact t_cVv lk_X2_92 62 107 rfl rfl (by decide) [.int (σ.1 20)] rfl rfl (Nat.le_of_ble_eq_true rfl) (Nat.le_of_ble_eq_true rfl) (e2 c1) (fun σ1 h => k2 c1 σ1 h)
theorem b_kind_107 {G : Gm} {T : Nat} {w : Wd} {σ : TW} {Q : Option Value → TW → Prop} {x1 : Int32} {x2 : Int32} (k1 : Tn G T w mX2_kind 51 [(0, .ref T), (1, .int x1), (2, .int (x2 + 1))] [] σ Q) : Tn G T w mX2_kind 107 [(0, .ref T), (1, .int x1), (2, .int x2)] [] σ Q := by
  refine p_iinc (v := (x2 + 1)) (lv' := [(2, .int (x2 + 1)), (0, .ref T), (1, .int x1)]) 63 110 2 rfl rfl rfl (congrArg (fun z => x2 + z) ci_1) (Nat.le_of_ble_eq_true rfl) rfl ?_
  refine p_goto 64 51 rfl rfl ?_
  exact p_sub [1, 2, 0] rfl (k1 )
theorem b_kind_119 {G : Gm} {T : Nat} {w : Wd} {σ : TW} {Q : Option Value → TW → Prop} {x1 : Int32} (k1 : Tn G T w mX2_kind 126 [(0, .ref T), (1, .int x1), (2, .int 0), (3, .int 1), (4, .int 1)] [] σ Q) : Tn G T w mX2_kind 119 [(0, .ref T), (1, .int x1)] [] σ Q := by
  refine p_iconst 68 120 rfl rfl ci_0 ?_
  refine p_istore_n (lv' := [(2, .int 0), (0, .ref T), (1, .int x1)]) 69 121 rfl rfl (Nat.le_of_ble_eq_true rfl) rfl ?_
  refine p_iconst 70 122 rfl rfl ci_1 ?_
  refine p_istore_n (lv' := [(3, .int 1), (2, .int 0), (0, .ref T), (1, .int x1)]) 71 123 rfl rfl (Nat.le_of_ble_eq_true rfl) rfl ?_
  refine p_iconst 72 124 rfl rfl ci_1 ?_
  refine p_istore (lv' := [(4, .int 1), (3, .int 1), (2, .int 0), (0, .ref T), (1, .int x1)]) 73 126 rfl rfl (Nat.le_of_ble_eq_true rfl) rfl ?_
  exact p_sub [3, 4, 2, 1, 0] rfl (k1 )
theorem b_kind_126 {G : Gm} {T : Nat} {w : Wd} {σ : TW} {Q : Option Value → TW → Prop} {x1 : Int32} {x2 : Int32} {x3 : Int32} {x4 : Int32} (b1 : x3 = 0 → vp_in x1 24) (b2 : x3 = 0 → vp_in 1 2) (k1 : x3 = 0 → Q none (tsA (tsA σ 7 (x1 : Int32).toNatClampNeg x2) 4 (1 : Int32).toNatClampNeg ((σ.2.1 4 (1 : Int32).toNatClampNeg) + 1))) (b3 : ¬ x3 = 0 → ¬ (σ.1 19) = (-1) → vp_in x1 24) (b4 : ¬ x3 = 0 → ¬ (σ.1 19) = (-1) → vp_in 1 2) (k2 : ¬ x3 = 0 → ¬ (σ.1 19) = (-1) → Q none (tsA (tsA σ 7 (x1 : Int32).toNatClampNeg x2) 4 (1 : Int32).toNatClampNeg ((σ.2.1 4 (1 : Int32).toNatClampNeg) + 1))) {Q3 : Int32 → TW → Prop} (e3 : ¬ x3 = 0 → (σ.1 19) = (-1) → Tvi G T w mX2_peek (.ref T :: []) σ Q3) (k3 : ¬ x3 = 0 → (σ.1 19) = (-1) → ∀ (y3 : Int32) σ3, Q3 y3 σ3 → Tn G T w mX2_kind 142 [(0, .ref T), (1, .int x1), (2, .int x2), (3, .int x3), (4, .int x4)] [.int y3] σ3 Q) : Tn G T w mX2_kind 126 [(0, .ref T), (1, .int x1), (2, .int x2), (3, .int x3), (4, .int x4)] [] σ Q := by
  refine p_iload_n 74 127 3 rfl rfl rfl ?_
  refine p_if_eq 75 130 265 rfl rfl rfl (fun c1 => ?_) (fun c1 => ?_)
  · refine p_aload_n 151 266 0 rfl rfl rfl ?_
    refine t_geti (v := .ref (T + 6)) fl_X2_25 152 269 rfl rfl rfl ?_
    refine p_iload_n 153 270 1 rfl rfl rfl ?_
    refine p_iload_n 154 271 2 rfl rfl rfl ?_
    refine t_iast (d := 6) (f := 7) 155 272 rfl rfl td_6 rfl tf_7 (b1 c1) ?_
    refine p_aload_n 156 273 0 rfl rfl rfl ?_
    refine t_geti (v := .ref (T + 3)) fl_X2_16 157 276 rfl rfl rfl ?_
    refine p_iconst 158 277 rfl rfl ci_1 ?_
    refine p_dup2 159 278 rfl rfl rfl rfl ?_
    refine t_iald (d := 3) (f := 4) (v := (σ.2.1 4 (1 : Int32).toNatClampNeg)) 160 279 rfl rfl td_3 rfl tf_4 (b2 c1) rfl ?_
    refine p_iconst 161 280 rfl rfl ci_1 ?_
    refine p_iadd 162 281 rfl rfl ?_
    refine t_iast (d := 3) (f := 4) 163 282 rfl rfl td_3 rfl tf_4 (b2 c1) ?_
    exact t_vret 164 rfl rfl (k1 c1)
  · refine p_aload_n 76 131 0 rfl rfl rfl ?_
    refine t_geti (v := .int (σ.1 19)) fl_X2_85 77 134 rfl rfl rfl ?_
    refine p_iconst 78 135 rfl rfl ci_m1 ?_
    refine p_icmp_ne 79 138 265 rfl rfl rfl (fun c2 => ?_) (fun c2 => ?_)
    · refine p_aload_n 151 266 0 rfl rfl rfl ?_
      refine t_geti (v := .ref (T + 6)) fl_X2_25 152 269 rfl rfl rfl ?_
      refine p_iload_n 153 270 1 rfl rfl rfl ?_
      refine p_iload_n 154 271 2 rfl rfl rfl ?_
      refine t_iast (d := 6) (f := 7) 155 272 rfl rfl td_6 rfl tf_7 (b3 c1 c2) ?_
      refine p_aload_n 156 273 0 rfl rfl rfl ?_
      refine t_geti (v := .ref (T + 3)) fl_X2_16 157 276 rfl rfl rfl ?_
      refine p_iconst 158 277 rfl rfl ci_1 ?_
      refine p_dup2 159 278 rfl rfl rfl rfl ?_
      refine t_iald (d := 3) (f := 4) (v := (σ.2.1 4 (1 : Int32).toNatClampNeg)) 160 279 rfl rfl td_3 rfl tf_4 (b4 c1 c2) rfl ?_
      refine p_iconst 161 280 rfl rfl ci_1 ?_
      refine p_iadd 162 281 rfl rfl ?_
      refine t_iast (d := 3) (f := 4) 163 282 rfl rfl td_3 rfl tf_4 (b4 c1 c2) ?_
      exact t_vret 164 rfl rfl (k2 c1 c2)
    · refine p_aload_n 80 139 0 rfl rfl rfl ?_
      exact t_cVi lk_X2_88 81 142 rfl rfl (by decide) [] rfl rfl (Nat.le_of_ble_eq_true rfl) (Nat.le_of_ble_eq_true rfl) (e3 c1 c2) (fun x σ1 h => k3 c1 c2 x σ1 h)
theorem b_kind_142 {G : Gm} {T : Nat} {w : Wd} {σ : TW} {Q : Option Value → TW → Prop} {x1 : Int32} {x2 : Int32} {x3 : Int32} {x4 : Int32} {s0 : Int32} (k1 : x2 ≤ 0 → Tn G T w mX2_kind 160 [(0, .ref T), (1, .int x1), (2, .int x2), (3, .int x3), (4, .int x4), (5, .int s0)] [] σ Q) (k2 : ¬ x2 ≤ 0 → ¬ s0 = 59 → Tn G T w mX2_kind 160 [(0, .ref T), (1, .int x1), (2, .int x2), (3, .int x3), (4, .int x4), (5, .int s0)] [] σ Q) (k3 : ¬ x2 ≤ 0 → s0 = 59 → Tn G T w mX2_kind 126 [(0, .ref T), (1, .int x1), (2, .int x2), (3, .int 0), (4, .int x4)] [] (tsI σ 18 ((σ.1 18) + 1)) Q) : Tn G T w mX2_kind 142 [(0, .ref T), (1, .int x1), (2, .int x2), (3, .int x3), (4, .int x4)] [.int s0] σ Q := by
  refine p_istore (lv' := [(5, .int s0), (0, .ref T), (1, .int x1), (2, .int x2), (3, .int x3), (4, .int x4)]) 82 144 rfl rfl (Nat.le_of_ble_eq_true rfl) rfl ?_
  refine p_iload_n 83 145 3 rfl rfl rfl ?_
  refine p_if_le 84 148 160 rfl rfl rfl (fun c1 => ?_) (fun c1 => ?_)
  · exact p_sub [1, 2, 3, 4, 5, 0] rfl (k1 c1)
  · refine p_iload 85 150 0 rfl rfl rfl ?_
    refine p_bipush 86 152 rfl rfl cb_59 ?_
    refine p_icmp_ne 87 155 160 rfl rfl rfl (fun c2 => ?_) (fun c2 => ?_)
    · exact p_sub [1, 2, 3, 4, 5, 0] rfl (k2 c1 c2)
    · refine p_iconst 88 156 rfl rfl ci_0 ?_
      refine p_istore_n (lv' := [(3, .int 0), (5, .int s0), (0, .ref T), (1, .int x1), (2, .int x2), (4, .int x4)]) 89 157 rfl rfl (Nat.le_of_ble_eq_true rfl) rfl ?_
      refine p_goto 90 252 rfl rfl ?_
      refine p_aload_n 144 253 2 rfl rfl rfl ?_
      refine p_dup 145 254 rfl rfl rfl ?_
      refine t_geti (v := .int (σ.1 18)) fl_X2_82 146 257 rfl rfl rfl ?_
      refine p_iconst 147 258 rfl rfl ci_1 ?_
      refine p_iadd 148 259 rfl rfl ?_
      refine t_puti fl_X2_82 149 262 rfl rfl rfl rfl (by decide) (tws_18 _ _ _) ?_
      refine p_goto 150 126 rfl rfl ?_
      exact p_sub [2, 3, 4, 0, 5] rfl (k3 c1 c2)
theorem b_kind_160 {G : Gm} {T : Nat} {w : Wd} {σ : TW} {Q : Option Value → TW → Prop} {x1 : Int32} {x2 : Int32} {x3 : Int32} {x4 : Int32} {x5 : Int32} {Q1 : TW → Prop} (e1 : ¬ x4 = 0 → x2 = 8 → Tvv G T w mX2_wrongAt (.ref T :: [.int (σ.1 18)]) σ Q1) (k1 : ¬ x4 = 0 → x2 = 8 → ∀ σ1, Q1 σ1 → Tn G T w mX2_kind 215 [(0, .ref T), (1, .int x1), (2, .int x2), (3, .int x3), (4, .int x4)] [] σ1 Q) {Q2 : Int32 → Prop} (e2 : ¬ x4 = 0 → ¬ x2 = 8 → Svi G mX2_sortOf [.int x5] Q2) (k2 : ¬ x4 = 0 → ¬ x2 = 8 → ∀ (y2 : Int32), Q2 y2 → Tn G T w mX2_kind 203 [(0, .ref T), (1, .int x1), (2, .int x2), (3, .int x3), (4, .int x4), (5, .int x5)] [.int y2] σ Q) {Q3 : TW → Prop} (e3 : x4 = 0 → ¬ x5 = 63 → x2 = 8 → Tvv G T w mX2_wrongAt (.ref T :: [.int (σ.1 18)]) σ Q3) (k3 : x4 = 0 → ¬ x5 = 63 → x2 = 8 → ∀ σ3, Q3 σ3 → Tn G T w mX2_kind 215 [(0, .ref T), (1, .int x1), (2, .int x2), (3, .int x3), (4, .int x4)] [] σ3 Q) {Q4 : Int32 → Prop} (e4 : x4 = 0 → ¬ x5 = 63 → ¬ x2 = 8 → Svi G mX2_sortOf [.int x5] Q4) (k4 : x4 = 0 → ¬ x5 = 63 → ¬ x2 = 8 → ∀ (y4 : Int32), Q4 y4 → Tn G T w mX2_kind 203 [(0, .ref T), (1, .int x1), (2, .int x2), (3, .int x3), (4, .int x4), (5, .int x5)] [.int y4] σ Q) (b1 : x4 = 0 → x5 = 63 → vp_in (((8 * x1) + x2) - 1) 192) (k5 : x4 = 0 → x5 = 63 → Tn G T w mX2_kind 126 [(0, .ref T), (1, .int x1), (2, .int x2), (3, .int x3), (4, .int 1)] [] (tsI (tsA σ 9 ((((8 * x1) + x2) - 1) : Int32).toNatClampNeg 1) 18 ((σ.1 18) + 1)) Q) : Tn G T w mX2_kind 160 [(0, .ref T), (1, .int x1), (2, .int x2), (3, .int x3), (4, .int x4), (5, .int x5)] [] σ Q := by
  refine p_iload 91 162 4 rfl rfl rfl ?_
  refine p_if_ne 92 165 192 rfl rfl rfl (fun c1 => ?_) (fun c1 => ?_)
  · refine p_iload_n 110 193 2 rfl rfl rfl ?_
    refine p_bipush 111 195 rfl rfl cb_8 ?_
    refine p_icmp_eq 112 198 207 rfl rfl rfl (fun c2 => ?_) (fun c2 => ?_)
    · refine p_aload_n 117 208 0 rfl rfl rfl ?_
      refine p_aload_n 118 209 0 rfl rfl rfl ?_
      refine t_geti (v := .int (σ.1 18)) fl_X2_82 119 212 rfl rfl rfl ?_
      exact t_cVv lk_X2_92 120 215 rfl rfl (by decide) [.int (σ.1 18)] rfl rfl (Nat.le_of_ble_eq_true rfl) (Nat.le_of_ble_eq_true rfl) (e1 c1 c2) (fun σ1 h => p_sub [0, 1, 2, 3, 4] rfl (k1 c1 c2 σ1 h))
    · refine p_iload 113 200 5 rfl rfl rfl ?_
      exact t_cSi lk_X2_121 114 203 rfl rfl (by decide) [.int x5] rfl rfl (Nat.le_of_ble_eq_true rfl) (Nat.le_of_ble_eq_true rfl) (e2 c1 c2) (fun x h => k2 c1 c2 x h)
  · refine p_iload 93 167 5 rfl rfl rfl ?_
    refine p_bipush 94 169 rfl rfl cb_63 ?_
    refine p_icmp_ne 95 172 192 rfl rfl rfl (fun c2 => ?_) (fun c2 => ?_)
    · refine p_iload_n 110 193 2 rfl rfl rfl ?_
      refine p_bipush 111 195 rfl rfl cb_8 ?_
      refine p_icmp_eq 112 198 207 rfl rfl rfl (fun c3 => ?_) (fun c3 => ?_)
      · refine p_aload_n 117 208 0 rfl rfl rfl ?_
        refine p_aload_n 118 209 0 rfl rfl rfl ?_
        refine t_geti (v := .int (σ.1 18)) fl_X2_82 119 212 rfl rfl rfl ?_
        exact t_cVv lk_X2_92 120 215 rfl rfl (by decide) [.int (σ.1 18)] rfl rfl (Nat.le_of_ble_eq_true rfl) (Nat.le_of_ble_eq_true rfl) (e3 c1 c2 c3) (fun σ1 h => p_sub [0, 1, 2, 3, 4] rfl (k3 c1 c2 c3 σ1 h))
      · refine p_iload 113 200 5 rfl rfl rfl ?_
        exact t_cSi lk_X2_121 114 203 rfl rfl (by decide) [.int x5] rfl rfl (Nat.le_of_ble_eq_true rfl) (Nat.le_of_ble_eq_true rfl) (e4 c1 c2 c3) (fun x h => k4 c1 c2 c3 x h)
    · refine p_aload_n 96 173 0 rfl rfl rfl ?_
      refine t_geti (v := .ref (T + 8)) fl_X2_31 97 176 rfl rfl rfl ?_
      refine p_bipush 98 178 rfl rfl cb_8 ?_
      refine p_iload_n 99 179 1 rfl rfl rfl ?_
      refine p_imul 100 180 rfl rfl ?_
      refine p_iload_n 101 181 2 rfl rfl rfl ?_
      refine p_iadd 102 182 rfl rfl ?_
      refine p_iconst 103 183 rfl rfl ci_1 ?_
      refine p_isub 104 184 rfl rfl ?_
      refine p_iconst 105 185 rfl rfl ci_1 ?_
      refine t_zast 106 186 rfl rfl (b1 c1 c2) rfl ?_
      refine p_iconst 107 187 rfl rfl ci_1 ?_
      refine p_istore (lv' := [(4, .int 1), (0, .ref T), (1, .int x1), (2, .int x2), (3, .int x3), (5, .int x5)]) 108 189 rfl rfl (Nat.le_of_ble_eq_true rfl) rfl ?_
      refine p_goto 109 252 rfl rfl ?_
      refine p_aload_n 144 253 1 rfl rfl rfl ?_
      refine p_dup 145 254 rfl rfl rfl ?_
      refine t_geti (v := .int (σ.1 18)) fl_X2_82 146 257 rfl rfl rfl ?_
      refine p_iconst 147 258 rfl rfl ci_1 ?_
      refine p_iadd 148 259 rfl rfl ?_
      refine t_puti fl_X2_82 149 262 rfl rfl rfl rfl (by decide) (tws_18 _ _ _) ?_
      refine p_goto 150 126 rfl rfl ?_
      exact p_sub [1, 2, 3, 4, 0] rfl (k5 c1 c2)
theorem b_kind_203 {G : Gm} {T : Nat} {w : Wd} {σ : TW} {Q : Option Value → TW → Prop} {x1 : Int32} {x2 : Int32} {x3 : Int32} {x4 : Int32} {x5 : Int32} {s0 : Int32} {Q1 : Int32 → Prop} (e1 : ¬ s0 = (-1) → Svi G mX2_sortOf [.int x5] Q1) (k1 : ¬ s0 = (-1) → ∀ (y1 : Int32), Q1 y1 → Tn G T w mX2_kind 233 [(0, .ref T), (1, .int x1), (2, .int x2), (3, .int x3)] [.int y1, .int ((8 * x1) + x2), .ref (T + 7)] σ Q) {Q2 : TW → Prop} (e2 : s0 = (-1) → Tvv G T w mX2_wrongAt (.ref T :: [.int (σ.1 18)]) σ Q2) (k2 : s0 = (-1) → ∀ σ2, Q2 σ2 → Tn G T w mX2_kind 215 [(0, .ref T), (1, .int x1), (2, .int x2), (3, .int x3), (4, .int x4)] [] σ2 Q) : Tn G T w mX2_kind 203 [(0, .ref T), (1, .int x1), (2, .int x2), (3, .int x3), (4, .int x4), (5, .int x5)] [.int s0] σ Q := by
  refine p_iconst 115 204 rfl rfl ci_m1 ?_
  refine p_icmp_ne 116 207 218 rfl rfl rfl (fun c1 => ?_) (fun c1 => ?_)
  · refine p_aload_n 122 219 0 rfl rfl rfl ?_
    refine t_geti (v := .ref (T + 7)) fl_X2_28 123 222 rfl rfl rfl ?_
    refine p_bipush 124 224 rfl rfl cb_8 ?_
    refine p_iload_n 125 225 1 rfl rfl rfl ?_
    refine p_imul 126 226 rfl rfl ?_
    refine p_iload_n 127 227 2 rfl rfl rfl ?_
    refine p_iadd 128 228 rfl rfl ?_
    refine p_iload 129 230 5 rfl rfl rfl ?_
    exact t_cSi lk_X2_121 130 233 rfl rfl (by decide) [.int x5] rfl rfl (Nat.le_of_ble_eq_true rfl) (Nat.le_of_ble_eq_true rfl) (e1 c1) (fun x h => p_sub [0, 1, 2, 3] rfl (k1 c1 x h))
  · refine p_aload_n 117 208 0 rfl rfl rfl ?_
    refine p_aload_n 118 209 0 rfl rfl rfl ?_
    refine t_geti (v := .int (σ.1 18)) fl_X2_82 119 212 rfl rfl rfl ?_
    exact t_cVv lk_X2_92 120 215 rfl rfl (by decide) [.int (σ.1 18)] rfl rfl (Nat.le_of_ble_eq_true rfl) (Nat.le_of_ble_eq_true rfl) (e2 c1) (fun σ1 h => p_sub [0, 1, 2, 3, 4] rfl (k2 c1 σ1 h))
theorem b_kind_215 {G : Gm} {T : Nat} {w : Wd} {σ : TW} {Q : Option Value → TW → Prop} {x1 : Int32} {x2 : Int32} {x3 : Int32} {x4 : Int32} (k1 : Tn G T w mX2_kind 126 [(0, .ref T), (1, .int x1), (2, .int x2), (3, .int x3), (4, .int x4)] [] (tsI σ 18 ((σ.1 18) + 1)) Q) : Tn G T w mX2_kind 215 [(0, .ref T), (1, .int x1), (2, .int x2), (3, .int x3), (4, .int x4)] [] σ Q := by
  refine p_goto 121 252 rfl rfl ?_
  refine p_aload_n 144 253 0 rfl rfl rfl ?_
  refine p_dup 145 254 rfl rfl rfl ?_
  refine t_geti (v := .int (σ.1 18)) fl_X2_82 146 257 rfl rfl rfl ?_
  refine p_iconst 147 258 rfl rfl ci_1 ?_
  refine p_iadd 148 259 rfl rfl ?_
  refine t_puti fl_X2_82 149 262 rfl rfl rfl rfl (by decide) (tws_18 _ _ _) ?_
  refine p_goto 150 126 rfl rfl ?_
  exact k1 
theorem b_kind_233 {G : Gm} {T : Nat} {w : Wd} {σ : TW} {Q : Option Value → TW → Prop} {x1 : Int32} {x2 : Int32} {x3 : Int32} {s0 : Int32} {s1 : Int32} (b1 : vp_in s1 192) (b2 : vp_in ((8 * x1) + x2) 192) (k1 : Tn G T w mX2_kind 126 [(0, .ref T), (1, .int x1), (2, .int (x2 + 1)), (3, .int x3), (4, .int 0)] [] (tsI (tsA (tsA σ 8 (s1 : Int32).toNatClampNeg s0) 9 (((8 * x1) + x2) : Int32).toNatClampNeg 0) 18 ((σ.1 18) + 1)) Q) : Tn G T w mX2_kind 233 [(0, .ref T), (1, .int x1), (2, .int x2), (3, .int x3)] [.int s0, .int s1, .ref (T + 7)] σ Q := by
  refine t_iast (d := 7) (f := 8) 131 234 rfl rfl td_7 rfl tf_8 b1 ?_
  refine p_aload_n 132 235 0 rfl rfl rfl ?_
  refine t_geti (v := .ref (T + 8)) fl_X2_31 133 238 rfl rfl rfl ?_
  refine p_bipush 134 240 rfl rfl cb_8 ?_
  refine p_iload_n 135 241 1 rfl rfl rfl ?_
  refine p_imul 136 242 rfl rfl ?_
  refine p_iload_n 137 243 2 rfl rfl rfl ?_
  refine p_iadd 138 244 rfl rfl ?_
  refine p_iconst 139 245 rfl rfl ci_0 ?_
  refine t_zast 140 246 rfl rfl b2 rfl ?_
  refine p_iconst 141 247 rfl rfl ci_0 ?_
  refine p_istore (lv' := [(4, .int 0), (0, .ref T), (1, .int x1), (2, .int x2), (3, .int x3)]) 142 249 rfl rfl (Nat.le_of_ble_eq_true rfl) rfl ?_
  refine p_iinc (v := (x2 + 1)) (lv' := [(2, .int (x2 + 1)), (4, .int 0), (0, .ref T), (1, .int x1), (3, .int x3)]) 143 252 3 rfl rfl rfl (congrArg (fun z => x2 + z) ci_1) (Nat.le_of_ble_eq_true rfl) rfl ?_
  refine p_aload_n 144 253 2 rfl rfl rfl ?_
  refine p_dup 145 254 rfl rfl rfl ?_
  refine t_geti (v := .int (σ.1 18)) fl_X2_82 146 257 rfl rfl rfl ?_
  refine p_iconst 147 258 rfl rfl ci_1 ?_
  refine p_iadd 148 259 rfl rfl ?_
  refine t_puti fl_X2_82 149 262 rfl rfl rfl rfl (by decide) (tws_18 _ _ _) ?_
  refine p_goto 150 126 rfl rfl ?_
  exact p_sub [2, 3, 0, 4, 1] rfl (k1 )
theorem b_wrongAt_0 {G : Gm} {T : Nat} {w : Wd} {σ : TW} {Q : Option Value → TW → Prop} {x1 : Int32} (k1 : ¬ (σ.1 19) = (-1) → Q none σ) (k2 : (σ.1 19) = (-1) → Q none (tsI σ 19 x1)) : Tn G T w mX2_wrongAt 0 [(0, .ref T), (1, .int x1)] [] σ Q := by
  refine p_aload_n 0 1 0 rfl rfl rfl ?_
  refine t_geti (v := .int (σ.1 19)) fl_X2_85 1 4 rfl rfl rfl ?_
  refine p_iconst 2 5 rfl rfl ci_m1 ?_
  refine p_icmp_ne 3 8 13 rfl rfl rfl (fun c1 => ?_) (fun c1 => ?_)
  · exact t_vret 7 rfl rfl (k1 c1)
  · refine p_aload_n 4 9 0 rfl rfl rfl ?_
    refine p_iload_n 5 10 1 rfl rfl rfl ?_
    refine t_puti fl_X2_85 6 13 rfl rfl rfl rfl (by decide) (tws_19 _ _ _) ?_
    exact t_vret 7 rfl rfl (k2 c1)
theorem b_name_0 {G : Gm} {T : Nat} {w : Wd} {σ : TW} {Q : Option Value → TW → Prop} {d1 : Nat} {x2 : Int32} {Q1 : Int32 → TW → Prop} (e1 : (σ.1 19) = (-1) → Tvi G T w mX2_peek (.ref T :: []) σ Q1) (k1 : (σ.1 19) = (-1) → ∀ (y1 : Int32) σ1, Q1 y1 σ1 → Tn G T w mX2_name 14 [(0, .ref T), (1, .ref (T + d1)), (2, .int x2)] [.int y1] σ1 Q) (k2 : ¬ (σ.1 19) = (-1) → Q (some (.int 0)) σ) : Tn G T w mX2_name 0 [(0, .ref T), (1, .ref (T + d1)), (2, .int x2)] [] σ Q := by
  refine p_aload_n 0 1 0 rfl rfl rfl ?_
  refine t_geti (v := .int (σ.1 19)) fl_X2_85 1 4 rfl rfl rfl ?_
  refine p_iconst 2 5 rfl rfl ci_m1 ?_
  refine p_icmp_eq 3 8 10 rfl rfl rfl (fun c1 => ?_) (fun c1 => ?_)
  · refine p_aload_n 6 11 0 rfl rfl rfl ?_
    exact t_cVi lk_X2_88 7 14 rfl rfl (by decide) [] rfl rfl (Nat.le_of_ble_eq_true rfl) (Nat.le_of_ble_eq_true rfl) (e1 c1) (fun x σ1 h => k1 c1 x σ1 h)
  · refine p_iconst 4 9 rfl rfl ci_0 ?_
    exact t_iret 5 rfl rfl rfl (k2 c1)
theorem b_name_14 {G : Gm} {T : Nat} {w : Wd} {σ : TW} {Q : Option Value → TW → Prop} {d1 : Nat} {x2 : Int32} {s0 : Int32} (k1 : Tn G T w mX2_name 23 [(0, .ref T), (1, .ref (T + d1)), (2, .int x2)] [] (tsI σ 20 (σ.1 18)) Q) : Tn G T w mX2_name 14 [(0, .ref T), (1, .ref (T + d1)), (2, .int x2)] [.int s0] σ Q := by
  refine p_pop 8 15 rfl rfl rfl ?_
  refine p_aload_n 9 16 0 rfl rfl rfl ?_
  refine p_aload_n 10 17 0 rfl rfl rfl ?_
  refine t_geti (v := .int (σ.1 18)) fl_X2_82 11 20 rfl rfl rfl ?_
  refine t_puti fl_X2_96 12 23 rfl rfl rfl rfl (by decide) (tws_20 _ _ _) ?_
  exact k1 
theorem b_name_23 {G : Gm} {T : Nat} {w : Wd} {σ : TW} {Q : Option Value → TW → Prop} {d1 : Nat} {x2 : Int32} {Q1 : TW → Prop} (e1 : (σ.1 1) ≤ (σ.1 18) → (σ.1 18) = (σ.1 20) → Tvv G T w mX2_wrongAt (.ref T :: [.int (σ.1 20)]) σ Q1) (k1 : (σ.1 1) ≤ (σ.1 18) → (σ.1 18) = (σ.1 20) → ∀ σ1, Q1 σ1 → Tn G T w mX2_name 131 [(0, .ref T)] [] σ1 Q) (k2 : (σ.1 1) ≤ (σ.1 18) → ¬ (σ.1 18) = (σ.1 20) → ((σ.1 18) - (σ.1 20)) ≤ 8 → Tn G T w mX2_name 131 [(0, .ref T)] [] σ Q) {Q3 : TW → Prop} (e3 : (σ.1 1) ≤ (σ.1 18) → ¬ (σ.1 18) = (σ.1 20) → ¬ ((σ.1 18) - (σ.1 20)) ≤ 8 → Tvv G T w mX2_wrongAt (.ref T :: [.int (σ.1 20)]) σ Q3) (k3 : (σ.1 1) ≤ (σ.1 18) → ¬ (σ.1 18) = (σ.1 20) → ¬ ((σ.1 18) - (σ.1 20)) ≤ 8 → ∀ σ3, Q3 σ3 → Tn G T w mX2_name 131 [(0, .ref T)] [] σ3 Q) (b1 : ¬ (σ.1 1) ≤ (σ.1 18) → vp_in (σ.1 18) 1200) {Q4 : Int32 → Prop} (e4 : ¬ (σ.1 1) ≤ (σ.1 18) → Svi G mX2_isLetter [.int (σ.2.1 2 ((σ.1 18) : Int32).toNatClampNeg)] Q4) (k4 : ¬ (σ.1 1) ≤ (σ.1 18) → ∀ (y4 : Int32), Q4 y4 → Tn G T w mX2_name 46 [(0, .ref T), (1, .ref (T + d1)), (2, .int x2)] [.int y4] σ Q) : Tn G T w mX2_name 23 [(0, .ref T), (1, .ref (T + d1)), (2, .int x2)] [] σ Q := by
  refine p_aload_n 13 24 0 rfl rfl rfl ?_
  refine t_geti (v := .int (σ.1 18)) fl_X2_82 14 27 rfl rfl rfl ?_
  refine p_aload_n 15 28 0 rfl rfl rfl ?_
  refine t_geti (v := .int (σ.1 1)) fl_X2_79 16 31 rfl rfl rfl ?_
  refine p_icmp_ge 17 34 98 rfl rfl rfl (fun c1 => ?_) (fun c1 => ?_)
  · refine p_aload_n 53 99 0 rfl rfl rfl ?_
    refine t_geti (v := .int (σ.1 18)) fl_X2_82 54 102 rfl rfl rfl ?_
    refine p_aload_n 55 103 0 rfl rfl rfl ?_
    refine t_geti (v := .int (σ.1 20)) fl_X2_96 56 106 rfl rfl rfl ?_
    refine p_icmp_eq 57 109 123 rfl rfl rfl (fun c2 => ?_) (fun c2 => ?_)
    · refine p_aload_n 65 124 0 rfl rfl rfl ?_
      refine p_aload_n 66 125 0 rfl rfl rfl ?_
      refine t_geti (v := .int (σ.1 20)) fl_X2_96 67 128 rfl rfl rfl ?_
      exact t_cVv lk_X2_92 68 131 rfl rfl (by decide) [.int (σ.1 20)] rfl rfl (Nat.le_of_ble_eq_true rfl) (Nat.le_of_ble_eq_true rfl) (e1 c1 c2) (fun σ1 h => p_sub [0] rfl (k1 c1 c2 σ1 h))
    · refine p_aload_n 58 110 0 rfl rfl rfl ?_
      refine t_geti (v := .int (σ.1 18)) fl_X2_82 59 113 rfl rfl rfl ?_
      refine p_aload_n 60 114 0 rfl rfl rfl ?_
      refine t_geti (v := .int (σ.1 20)) fl_X2_96 61 117 rfl rfl rfl ?_
      refine p_isub 62 118 rfl rfl ?_
      refine p_bipush 63 120 rfl rfl cb_8 ?_
      refine p_icmp_le 64 123 131 rfl rfl rfl (fun c3 => ?_) (fun c3 => ?_)
      · exact p_sub [0] rfl (k2 c1 c2 c3)
      · refine p_aload_n 65 124 0 rfl rfl rfl ?_
        refine p_aload_n 66 125 0 rfl rfl rfl ?_
        refine t_geti (v := .int (σ.1 20)) fl_X2_96 67 128 rfl rfl rfl ?_
        exact t_cVv lk_X2_92 68 131 rfl rfl (by decide) [.int (σ.1 20)] rfl rfl (Nat.le_of_ble_eq_true rfl) (Nat.le_of_ble_eq_true rfl) (e3 c1 c2 c3) (fun σ1 h => p_sub [0] rfl (k3 c1 c2 c3 σ1 h))
  · refine p_aload_n 18 35 0 rfl rfl rfl ?_
    refine t_geti (v := .ref (T + 1)) fl_X2_7 19 38 rfl rfl rfl ?_
    refine p_aload_n 20 39 0 rfl rfl rfl ?_
    refine t_geti (v := .int (σ.1 18)) fl_X2_82 21 42 rfl rfl rfl ?_
    refine t_iald (d := 1) (f := 2) (v := (σ.2.1 2 ((σ.1 18) : Int32).toNatClampNeg)) 22 43 rfl rfl td_1 rfl tf_2 (b1 c1) rfl ?_
    exact t_cSi lk_X2_103 23 46 rfl rfl (by decide) [.int (σ.2.1 2 ((σ.1 18) : Int32).toNatClampNeg)] rfl rfl (Nat.le_of_ble_eq_true rfl) (Nat.le_of_ble_eq_true rfl) (e4 c1) (fun x h => k4 c1 x h)
theorem b_name_46 {G : Gm} {T : Nat} {w : Wd} {σ : TW} {Q : Option Value → TW → Prop} {d1 : Nat} {x2 : Int32} {s0 : Int32} {Q1 : TW → Prop} (e1 : s0 = 0 → (σ.1 18) = (σ.1 20) → Tvv G T w mX2_wrongAt (.ref T :: [.int (σ.1 20)]) σ Q1) (k1 : s0 = 0 → (σ.1 18) = (σ.1 20) → ∀ σ1, Q1 σ1 → Tn G T w mX2_name 131 [(0, .ref T)] [] σ1 Q) (k2 : s0 = 0 → ¬ (σ.1 18) = (σ.1 20) → ((σ.1 18) - (σ.1 20)) ≤ 8 → Tn G T w mX2_name 131 [(0, .ref T)] [] σ Q) {Q3 : TW → Prop} (e3 : s0 = 0 → ¬ (σ.1 18) = (σ.1 20) → ¬ ((σ.1 18) - (σ.1 20)) ≤ 8 → Tvv G T w mX2_wrongAt (.ref T :: [.int (σ.1 20)]) σ Q3) (k3 : s0 = 0 → ¬ (σ.1 18) = (σ.1 20) → ¬ ((σ.1 18) - (σ.1 20)) ≤ 8 → ∀ σ3, Q3 σ3 → Tn G T w mX2_name 131 [(0, .ref T)] [] σ3 Q) (k4 : ¬ s0 = 0 → (8 : Int32) ≤ ((σ.1 18) - (σ.1 20)) → Tn G T w mX2_name 23 [(0, .ref T), (1, .ref (T + d1)), (2, .int x2)] [] (tsI σ 18 ((σ.1 18) + 1)) Q) (b1 : ¬ s0 = 0 → ¬ (8 : Int32) ≤ ((σ.1 18) - (σ.1 20)) → vp_in (σ.1 18) 1200) (r2 : 1 ≤ d1 ∧ d1 ≤ 19) (r3 : twFd d1 ≠ 23 ∧ twFd d1 ≠ 9) (b4 : ¬ s0 = 0 → ¬ (8 : Int32) ≤ ((σ.1 18) - (σ.1 20)) → vp_in ((x2 + (σ.1 18)) - (σ.1 20)) (twLn (twFd d1))) (k5 : ¬ s0 = 0 → ¬ (8 : Int32) ≤ ((σ.1 18) - (σ.1 20)) → Tn G T w mX2_name 23 [(0, .ref T), (1, .ref (T + d1)), (2, .int x2)] [] (tsI (tsA σ (twFd d1) (((x2 + (σ.1 18)) - (σ.1 20)) : Int32).toNatClampNeg (σ.2.1 2 ((σ.1 18) : Int32).toNatClampNeg)) 18 ((σ.1 18) + 1)) Q) : Tn G T w mX2_name 46 [(0, .ref T), (1, .ref (T + d1)), (2, .int x2)] [.int s0] σ Q := by
  refine p_if_eq 24 49 98 rfl rfl rfl (fun c1 => ?_) (fun c1 => ?_)
  · refine p_aload_n 53 99 0 rfl rfl rfl ?_
    refine t_geti (v := .int (σ.1 18)) fl_X2_82 54 102 rfl rfl rfl ?_
    refine p_aload_n 55 103 0 rfl rfl rfl ?_
    refine t_geti (v := .int (σ.1 20)) fl_X2_96 56 106 rfl rfl rfl ?_
    refine p_icmp_eq 57 109 123 rfl rfl rfl (fun c2 => ?_) (fun c2 => ?_)
    · refine p_aload_n 65 124 0 rfl rfl rfl ?_
      refine p_aload_n 66 125 0 rfl rfl rfl ?_
      refine t_geti (v := .int (σ.1 20)) fl_X2_96 67 128 rfl rfl rfl ?_
      exact t_cVv lk_X2_92 68 131 rfl rfl (by decide) [.int (σ.1 20)] rfl rfl (Nat.le_of_ble_eq_true rfl) (Nat.le_of_ble_eq_true rfl) (e1 c1 c2) (fun σ1 h => p_sub [0] rfl (k1 c1 c2 σ1 h))
    · refine p_aload_n 58 110 0 rfl rfl rfl ?_
      refine t_geti (v := .int (σ.1 18)) fl_X2_82 59 113 rfl rfl rfl ?_
      refine p_aload_n 60 114 0 rfl rfl rfl ?_
      refine t_geti (v := .int (σ.1 20)) fl_X2_96 61 117 rfl rfl rfl ?_
      refine p_isub 62 118 rfl rfl ?_
      refine p_bipush 63 120 rfl rfl cb_8 ?_
      refine p_icmp_le 64 123 131 rfl rfl rfl (fun c3 => ?_) (fun c3 => ?_)
      · exact p_sub [0] rfl (k2 c1 c2 c3)
      · refine p_aload_n 65 124 0 rfl rfl rfl ?_
        refine p_aload_n 66 125 0 rfl rfl rfl ?_
        refine t_geti (v := .int (σ.1 20)) fl_X2_96 67 128 rfl rfl rfl ?_
        exact t_cVv lk_X2_92 68 131 rfl rfl (by decide) [.int (σ.1 20)] rfl rfl (Nat.le_of_ble_eq_true rfl) (Nat.le_of_ble_eq_true rfl) (e3 c1 c2 c3) (fun σ1 h => p_sub [0] rfl (k3 c1 c2 c3 σ1 h))
  · refine p_aload_n 25 50 0 rfl rfl rfl ?_
    refine t_geti (v := .int (σ.1 18)) fl_X2_82 26 53 rfl rfl rfl ?_
    refine p_aload_n 27 54 0 rfl rfl rfl ?_
    refine t_geti (v := .int (σ.1 20)) fl_X2_96 28 57 rfl rfl rfl ?_
    refine p_isub 29 58 rfl rfl ?_
    refine p_bipush 30 60 rfl rfl cb_8 ?_
    refine p_icmp_ge 31 63 85 rfl rfl rfl (fun c2 => ?_) (fun c2 => ?_)
    · refine p_aload_n 46 86 0 rfl rfl rfl ?_
      refine p_dup 47 87 rfl rfl rfl ?_
      refine t_geti (v := .int (σ.1 18)) fl_X2_82 48 90 rfl rfl rfl ?_
      refine p_iconst 49 91 rfl rfl ci_1 ?_
      refine p_iadd 50 92 rfl rfl ?_
      refine t_puti fl_X2_82 51 95 rfl rfl rfl rfl (by decide) (tws_18 _ _ _) ?_
      refine p_goto 52 23 rfl rfl ?_
      exact k4 c1 c2
    · refine p_aload_n 32 64 1 rfl rfl rfl ?_
      refine p_iload_n 33 65 2 rfl rfl rfl ?_
      refine p_aload_n 34 66 0 rfl rfl rfl ?_
      refine t_geti (v := .int (σ.1 18)) fl_X2_82 35 69 rfl rfl rfl ?_
      refine p_iadd 36 70 rfl rfl ?_
      refine p_aload_n 37 71 0 rfl rfl rfl ?_
      refine t_geti (v := .int (σ.1 20)) fl_X2_96 38 74 rfl rfl rfl ?_
      refine p_isub 39 75 rfl rfl ?_
      refine p_aload_n 40 76 0 rfl rfl rfl ?_
      refine t_geti (v := .ref (T + 1)) fl_X2_7 41 79 rfl rfl rfl ?_
      refine p_aload_n 42 80 0 rfl rfl rfl ?_
      refine t_geti (v := .int (σ.1 18)) fl_X2_82 43 83 rfl rfl rfl ?_
      refine t_iald (d := 1) (f := 2) (v := (σ.2.1 2 ((σ.1 18) : Int32).toNatClampNeg)) 44 84 rfl rfl td_1 rfl tf_2 (b1 c1 c2) rfl ?_
      refine t_iast (d := d1) (f := twFd d1) 45 85 rfl rfl r2 rfl r3 (b4 c1 c2) ?_
      refine p_aload_n 46 86 0 rfl rfl rfl ?_
      refine p_dup 47 87 rfl rfl rfl ?_
      refine t_geti (v := .int (σ.1 18)) fl_X2_82 48 90 rfl rfl rfl ?_
      refine p_iconst 49 91 rfl rfl ci_1 ?_
      refine p_iadd 50 92 rfl rfl ?_
      refine t_puti fl_X2_82 51 95 rfl rfl rfl rfl (by decide) (tws_18 _ _ _) ?_
      refine p_goto 52 23 rfl rfl ?_
      exact k5 c1 c2
theorem b_name_131 {G : Gm} {T : Nat} {w : Wd} {σ : TW} {Q : Option Value → TW → Prop} (k1 : Q (some (.int ((σ.1 18) - (σ.1 20)))) σ) : Tn G T w mX2_name 131 [(0, .ref T)] [] σ Q := by
  refine p_aload_n 69 132 0 rfl rfl rfl ?_
  refine t_geti (v := .int (σ.1 18)) fl_X2_82 70 135 rfl rfl rfl ?_
  refine p_aload_n 71 136 0 rfl rfl rfl ?_
  refine t_geti (v := .int (σ.1 20)) fl_X2_96 72 139 rfl rfl rfl ?_
  refine p_isub 73 140 rfl rfl ?_
  exact t_iret 74 rfl rfl rfl (k1 )
theorem b_isLetter_0 {G : Gm} {T : Nat} {w : Wd} {σ : TW} {Q : Option Value → TW → Prop} {x0 : Int32} (k1 : x0 < 65 → Q (some (.int 0)) σ) (k2 : ¬ x0 < 65 → (90 : Int32) < x0 → Q (some (.int 0)) σ) (k3 : ¬ x0 < 65 → ¬ (90 : Int32) < x0 → Q (some (.int 1)) σ) : Tn G T w mX2_isLetter 0 [(0, .int x0)] [] σ Q := by
  refine p_iload_n 0 1 0 rfl rfl rfl ?_
  refine p_bipush 1 3 rfl rfl cb_65 ?_
  refine p_icmp_lt 2 6 16 rfl rfl rfl (fun c1 => ?_) (fun c1 => ?_)
  · refine p_iconst 8 17 rfl rfl ci_0 ?_
    exact t_iret 9 rfl rfl rfl (k1 c1)
  · refine p_iload_n 3 7 0 rfl rfl rfl ?_
    refine p_bipush 4 9 rfl rfl cb_90 ?_
    refine p_icmp_gt 5 12 16 rfl rfl rfl (fun c2 => ?_) (fun c2 => ?_)
    · refine p_iconst 8 17 rfl rfl ci_0 ?_
      exact t_iret 9 rfl rfl rfl (k2 c1 c2)
    · refine p_iconst 6 13 rfl rfl ci_1 ?_
      refine p_goto 7 17 rfl rfl ?_
      exact t_iret 9 rfl rfl rfl (k3 c1 c2)
theorem b_sign_0 {G : Gm} {T : Nat} {w : Wd} {σ : TW} {Q : Option Value → TW → Prop} {x1 : Int32} {Q1 : Int32 → TW → Prop} (e1 : (σ.1 19) = (-1) → Tvi G T w mX2_peek (.ref T :: []) σ Q1) (k1 : (σ.1 19) = (-1) → ∀ (y1 : Int32) σ1, Q1 y1 σ1 → Tn G T w mX2_sign 13 [(0, .ref T), (1, .int x1)] [.int y1] σ1 Q) (k2 : ¬ (σ.1 19) = (-1) → Q none σ) : Tn G T w mX2_sign 0 [(0, .ref T), (1, .int x1)] [] σ Q := by
  refine p_aload_n 0 1 0 rfl rfl rfl ?_
  refine t_geti (v := .int (σ.1 19)) fl_X2_85 1 4 rfl rfl rfl ?_
  refine p_iconst 2 5 rfl rfl ci_m1 ?_
  refine p_icmp_eq 3 8 9 rfl rfl rfl (fun c1 => ?_) (fun c1 => ?_)
  · refine p_aload_n 5 10 0 rfl rfl rfl ?_
    exact t_cVi lk_X2_88 6 13 rfl rfl (by decide) [] rfl rfl (Nat.le_of_ble_eq_true rfl) (Nat.le_of_ble_eq_true rfl) (e1 c1) (fun x σ1 h => k1 c1 x σ1 h)
  · exact t_vret 4 rfl rfl (k2 c1)
theorem b_sign_13 {G : Gm} {T : Nat} {w : Wd} {σ : TW} {Q : Option Value → TW → Prop} {x1 : Int32} {s0 : Int32} {Q1 : TW → Prop} (e1 : ¬ s0 = x1 → Tvv G T w mX2_wrongAt (.ref T :: [.int (σ.1 18)]) σ Q1) (k1 : ¬ s0 = x1 → ∀ σ1, Q1 σ1 → Tn G T w mX2_sign 38 [] [] σ1 Q) (k2 : s0 = x1 → Tn G T w mX2_sign 38 [] [] (tsI σ 18 ((σ.1 18) + 1)) Q) : Tn G T w mX2_sign 13 [(0, .ref T), (1, .int x1)] [.int s0] σ Q := by
  refine p_iload_n 7 14 1 rfl rfl rfl ?_
  refine p_icmp_ne 8 17 30 rfl rfl rfl (fun c1 => ?_) (fun c1 => ?_)
  · refine p_aload_n 16 31 0 rfl rfl rfl ?_
    refine p_aload_n 17 32 0 rfl rfl rfl ?_
    refine t_geti (v := .int (σ.1 18)) fl_X2_82 18 35 rfl rfl rfl ?_
    exact t_cVv lk_X2_92 19 38 rfl rfl (by decide) [.int (σ.1 18)] rfl rfl (Nat.le_of_ble_eq_true rfl) (Nat.le_of_ble_eq_true rfl) (e1 c1) (fun σ1 h => p_sub [] rfl (k1 c1 σ1 h))
  · refine p_aload_n 9 18 0 rfl rfl rfl ?_
    refine p_dup 10 19 rfl rfl rfl ?_
    refine t_geti (v := .int (σ.1 18)) fl_X2_82 11 22 rfl rfl rfl ?_
    refine p_iconst 12 23 rfl rfl ci_1 ?_
    refine p_iadd 13 24 rfl rfl ?_
    refine t_puti fl_X2_82 14 27 rfl rfl rfl rfl (by decide) (tws_18 _ _ _) ?_
    refine p_goto 15 38 rfl rfl ?_
    exact p_sub [] rfl (k2 c1)
theorem b_sign_38 {G : Gm} {T : Nat} {w : Wd} {σ : TW} {Q : Option Value → TW → Prop} (k1 : Q none σ) : Tn G T w mX2_sign 38 [] [] σ Q := by
  exact t_vret 20 rfl rfl (k1 )
theorem b_sortOf_0 {G : Gm} {T : Nat} {w : Wd} {σ : TW} {Q : Option Value → TW → Prop} {x0 : Int32} (k1 : x0 = 69 → Q (some (.int 5)) σ) (k2 : ¬ x0 = 69 → x0 = 73 → Q (some (.int 0)) σ) (k3 : ¬ x0 = 69 → ¬ x0 = 73 → x0 = 76 → Q (some (.int 3)) σ) (k4 : ¬ x0 = 69 → ¬ x0 = 73 → ¬ x0 = 76 → x0 = 77 → Q (some (.int 4)) σ) (k5 : ¬ x0 = 69 → ¬ x0 = 73 → ¬ x0 = 76 → ¬ x0 = 77 → x0 = 82 → Q (some (.int 2)) σ) (k6 : ¬ x0 = 69 → ¬ x0 = 73 → ¬ x0 = 76 → ¬ x0 = 77 → ¬ x0 = 82 → x0 = 84 → Q (some (.int 1)) σ) (k7 : ¬ x0 = 69 → ¬ x0 = 73 → ¬ x0 = 76 → ¬ x0 = 77 → ¬ x0 = 82 → ¬ x0 = 84 → Q (some (.int (-1))) σ) : Tn G T w mX2_sortOf 0 [(0, .int x0)] [] σ Q := by
  refine p_iload_n 0 1 0 rfl rfl rfl ?_
  by_cases c1 : x0 = 69
  · refine p_tabIn (off := 89) 1 90 rfl (by rw [c1]; decide) (by rw [c1]; decide) (by rw [c1]; rfl) rfl ?_
    refine p_iconst 12 91 rfl rfl ci_5 ?_
    exact t_iret 13 rfl rfl rfl (k1 c1)
  by_cases c2 : x0 = 73
  · refine p_tabIn (off := 79) 1 80 rfl (by rw [c2]; decide) (by rw [c2]; decide) (by rw [c2]; rfl) rfl ?_
    refine p_iconst 2 81 rfl rfl ci_0 ?_
    exact t_iret 3 rfl rfl rfl (k2 c1 c2)
  by_cases c3 : x0 = 76
  · refine p_tabIn (off := 85) 1 86 rfl (by rw [c3]; decide) (by rw [c3]; decide) (by rw [c3]; rfl) rfl ?_
    refine p_iconst 8 87 rfl rfl ci_3 ?_
    exact t_iret 9 rfl rfl rfl (k3 c1 c2 c3)
  by_cases c4 : x0 = 77
  · refine p_tabIn (off := 87) 1 88 rfl (by rw [c4]; decide) (by rw [c4]; decide) (by rw [c4]; rfl) rfl ?_
    refine p_iconst 10 89 rfl rfl ci_4 ?_
    exact t_iret 11 rfl rfl rfl (k4 c1 c2 c3 c4)
  by_cases c5 : x0 = 82
  · refine p_tabIn (off := 83) 1 84 rfl (by rw [c5]; decide) (by rw [c5]; decide) (by rw [c5]; rfl) rfl ?_
    refine p_iconst 6 85 rfl rfl ci_2 ?_
    exact t_iret 7 rfl rfl rfl (k5 c1 c2 c3 c4 c5)
  by_cases c6 : x0 = 84
  · refine p_tabIn (off := 81) 1 82 rfl (by rw [c6]; decide) (by rw [c6]; decide) (by rw [c6]; rfl) rfl ?_
    refine p_iconst 4 83 rfl rfl ci_1 ?_
    exact t_iret 5 rfl rfl rfl (k6 c1 c2 c3 c4 c5 c6)
  refine tab_X2_sortOf c1 c2 c3 c4 c5 c6 ?_
  refine p_iconst 14 93 rfl rfl ci_m1 ?_
  exact t_iret 15 rfl rfl rfl (k7 c1 c2 c3 c4 c5 c6)
theorem b_read_0 {G : Gm} {T : Nat} {w : Wd} {σ : TW} {Q : Option Value → TW → Prop} (b1 : vp_in 1 3) (k1 : Tn G T w mX2_read 22 [(0, .ref T)] [] (tsA (tsI (tsI (tsI σ 0 0) 18 0) 19 (-1)) 10 (1 : Int32).toNatClampNeg 0) Q) : Tn G T w mX2_read 0 [(0, .ref T)] [] σ Q := by
  refine p_aload_n 0 1 0 rfl rfl rfl ?_
  refine p_iconst 1 2 rfl rfl ci_0 ?_
  refine t_puti fl_X2_69 2 5 rfl rfl rfl rfl (by decide) (tws_0 _ _ _) ?_
  refine p_aload_n 3 6 0 rfl rfl rfl ?_
  refine p_iconst 4 7 rfl rfl ci_0 ?_
  refine t_puti fl_X2_82 5 10 rfl rfl rfl rfl (by decide) (tws_18 _ _ _) ?_
  refine p_aload_n 6 11 0 rfl rfl rfl ?_
  refine p_iconst 7 12 rfl rfl ci_m1 ?_
  refine t_puti fl_X2_85 8 15 rfl rfl rfl rfl (by decide) (tws_19 _ _ _) ?_
  refine p_aload_n 9 16 0 rfl rfl rfl ?_
  refine t_geti (v := .ref (T + 9)) fl_X2_35 10 19 rfl rfl rfl ?_
  refine p_iconst 11 20 rfl rfl ci_1 ?_
  refine p_iconst 12 21 rfl rfl ci_0 ?_
  refine t_iast (d := 9) (f := 10) 13 22 rfl rfl td_9 rfl tf_10 b1 ?_
  exact k1 
theorem b_read_22 {G : Gm} {T : Nat} {w : Wd} {σ : TW} {Q : Option Value → TW → Prop} (k1 : ¬ (σ.1 19) = (-1) → (σ.1 19) = (-1) → Tn G T w mX2_read 62 [(0, .ref T), (1, .int 40)] [] σ Q) (k2 : ¬ (σ.1 19) = (-1) → ¬ (σ.1 19) = (-1) → Q (some (.int ((-1) - (σ.1 19)))) σ) {Q3 : Int32 → TW → Prop} (e3 : (σ.1 19) = (-1) → Tvi G T w mX2_peek (.ref T :: []) σ Q3) (k3 : (σ.1 19) = (-1) → ∀ (y3 : Int32) σ3, Q3 y3 σ3 → Tn G T w mX2_read 34 [(0, .ref T)] [.int y3] σ3 Q) : Tn G T w mX2_read 22 [(0, .ref T)] [] σ Q := by
  refine p_aload_n 14 23 0 rfl rfl rfl ?_
  refine t_geti (v := .int (σ.1 19)) fl_X2_85 15 26 rfl rfl rfl ?_
  refine p_iconst 16 27 rfl rfl ci_m1 ?_
  refine p_icmp_ne 17 30 44 rfl rfl rfl (fun c1 => ?_) (fun c1 => ?_)
  · refine p_aload_n 24 45 0 rfl rfl rfl ?_
    refine t_geti (v := .int (σ.1 19)) fl_X2_85 25 48 rfl rfl rfl ?_
    refine p_iconst 26 49 rfl rfl ci_m1 ?_
    refine p_icmp_eq 27 52 59 rfl rfl rfl (fun c2 => ?_) (fun c2 => ?_)
    · refine p_bipush 33 61 rfl rfl cb_40 ?_
      refine p_istore_n (lv' := [(1, .int 40), (0, .ref T)]) 34 62 rfl rfl (Nat.le_of_ble_eq_true rfl) rfl ?_
      exact p_sub [1, 0] rfl (k1 c1 c2)
    · refine p_iconst 28 53 rfl rfl ci_m1 ?_
      refine p_aload_n 29 54 0 rfl rfl rfl ?_
      refine t_geti (v := .int (σ.1 19)) fl_X2_85 30 57 rfl rfl rfl ?_
      refine p_isub 31 58 rfl rfl ?_
      exact t_iret 32 rfl rfl rfl (k2 c1 c2)
  · refine p_aload_n 18 31 0 rfl rfl rfl ?_
    exact t_cVi lk_X2_88 19 34 rfl rfl (by decide) [] rfl rfl (Nat.le_of_ble_eq_true rfl) (Nat.le_of_ble_eq_true rfl) (e3 c1) (fun x σ1 h => k3 c1 x σ1 h)
theorem b_read_34 {G : Gm} {T : Nat} {w : Wd} {σ : TW} {Q : Option Value → TW → Prop} {s0 : Int32} (k1 : s0 = 0 → (σ.1 19) = (-1) → Tn G T w mX2_read 62 [(0, .ref T), (1, .int 40)] [] σ Q) (k2 : s0 = 0 → ¬ (σ.1 19) = (-1) → Q (some (.int ((-1) - (σ.1 19)))) σ) {Q3 : TW → Prop} (e3 : ¬ s0 = 0 → Tvv G T w mX2_oneLine (.ref T :: []) σ Q3) (k3 : ¬ s0 = 0 → ∀ σ3, Q3 σ3 → Tn G T w mX2_read 41 [(0, .ref T)] [] σ3 Q) : Tn G T w mX2_read 34 [(0, .ref T)] [.int s0] σ Q := by
  refine p_if_eq 20 37 44 rfl rfl rfl (fun c1 => ?_) (fun c1 => ?_)
  · refine p_aload_n 24 45 0 rfl rfl rfl ?_
    refine t_geti (v := .int (σ.1 19)) fl_X2_85 25 48 rfl rfl rfl ?_
    refine p_iconst 26 49 rfl rfl ci_m1 ?_
    refine p_icmp_eq 27 52 59 rfl rfl rfl (fun c2 => ?_) (fun c2 => ?_)
    · refine p_bipush 33 61 rfl rfl cb_40 ?_
      refine p_istore_n (lv' := [(1, .int 40), (0, .ref T)]) 34 62 rfl rfl (Nat.le_of_ble_eq_true rfl) rfl ?_
      exact p_sub [1, 0] rfl (k1 c1 c2)
    · refine p_iconst 28 53 rfl rfl ci_m1 ?_
      refine p_aload_n 29 54 0 rfl rfl rfl ?_
      refine t_geti (v := .int (σ.1 19)) fl_X2_85 30 57 rfl rfl rfl ?_
      refine p_isub 31 58 rfl rfl ?_
      exact t_iret 32 rfl rfl rfl (k2 c1 c2)
  · refine p_aload_n 21 38 0 rfl rfl rfl ?_
    exact t_cVv lk_X2_149 22 41 rfl rfl (by decide) [] rfl rfl (Nat.le_of_ble_eq_true rfl) (Nat.le_of_ble_eq_true rfl) (e3 c1) (fun σ1 h => k3 c1 σ1 h)
theorem b_read_41 {G : Gm} {T : Nat} {w : Wd} {σ : TW} {Q : Option Value → TW → Prop} (k1 : Tn G T w mX2_read 22 [(0, .ref T)] [] σ Q) : Tn G T w mX2_read 41 [(0, .ref T)] [] σ Q := by
  refine p_goto 23 22 rfl rfl ?_
  exact k1 
theorem b_read_62 {G : Gm} {T : Nat} {w : Wd} {σ : TW} {Q : Option Value → TW → Prop} {x1 : Int32} (b1 : vp_in 1 3) (b2 : (40 + (σ.2.1 10 (1 : Int32).toNatClampNeg)) ≤ x1 → vp_in 0 3) (k1 : (40 + (σ.2.1 10 (1 : Int32).toNatClampNeg)) ≤ x1 → Tn G T w mX2_read 115 [(0, .ref T), (1, .int 40)] [] (tsA σ 10 (0 : Int32).toNatClampNeg (σ.2.1 10 (1 : Int32).toNatClampNeg)) Q) {Q2 : Int32 → TW → Prop} (e2 : ¬ (40 + (σ.2.1 10 (1 : Int32).toNatClampNeg)) ≤ x1 → Tvi G T w mX2_isMissing (.ref T :: [.int x1]) σ Q2) (k2 : ¬ (40 + (σ.2.1 10 (1 : Int32).toNatClampNeg)) ≤ x1 → ∀ (y2 : Int32) σ2, Q2 y2 σ2 → Tn G T w mX2_read 80 [(0, .ref T), (1, .int x1)] [.int y2] σ2 Q) : Tn G T w mX2_read 62 [(0, .ref T), (1, .int x1)] [] σ Q := by
  refine p_iload_n 35 63 1 rfl rfl rfl ?_
  refine p_bipush 36 65 rfl rfl cb_40 ?_
  refine p_aload_n 37 66 0 rfl rfl rfl ?_
  refine t_geti (v := .ref (T + 9)) fl_X2_35 38 69 rfl rfl rfl ?_
  refine p_iconst 39 70 rfl rfl ci_1 ?_
  refine t_iald (d := 9) (f := 10) (v := (σ.2.1 10 (1 : Int32).toNatClampNeg)) 40 71 rfl rfl td_9 rfl tf_10 b1 rfl ?_
  refine p_iadd 41 72 rfl rfl ?_
  refine p_icmp_ge 42 75 100 rfl rfl rfl (fun c1 => ?_) (fun c1 => ?_)
  · refine p_aload_n 56 101 0 rfl rfl rfl ?_
    refine t_geti (v := .ref (T + 9)) fl_X2_35 57 104 rfl rfl rfl ?_
    refine p_iconst 58 105 rfl rfl ci_0 ?_
    refine p_aload_n 59 106 0 rfl rfl rfl ?_
    refine t_geti (v := .ref (T + 9)) fl_X2_35 60 109 rfl rfl rfl ?_
    refine p_iconst 61 110 rfl rfl ci_1 ?_
    refine t_iald (d := 9) (f := 10) (v := (σ.2.1 10 (1 : Int32).toNatClampNeg)) 62 111 rfl rfl td_9 rfl tf_10 b1 rfl ?_
    refine t_iast (d := 9) (f := 10) 63 112 rfl rfl td_9 rfl tf_10 (b2 c1) ?_
    refine p_bipush 64 114 rfl rfl cb_40 ?_
    refine p_istore_n (lv' := [(1, .int 40), (0, .ref T)]) 65 115 rfl rfl (Nat.le_of_ble_eq_true rfl) rfl ?_
    exact p_sub [1, 0] rfl (k1 c1)
  · refine p_aload_n 43 76 0 rfl rfl rfl ?_
    refine p_iload_n 44 77 1 rfl rfl rfl ?_
    exact t_cVi lk_X2_152 45 80 rfl rfl (by decide) [.int x1] rfl rfl (Nat.le_of_ble_eq_true rfl) (Nat.le_of_ble_eq_true rfl) (e2 c1) (fun x σ1 h => k2 c1 x σ1 h)
theorem b_read_80 {G : Gm} {T : Nat} {w : Wd} {σ : TW} {Q : Option Value → TW → Prop} {x1 : Int32} {s0 : Int32} (k1 : s0 = 0 → Tn G T w mX2_read 62 [(0, .ref T), (1, .int (x1 + 1))] [] σ Q) (b1 : ¬ s0 = 0 → vp_in x1 120) (k2 : ¬ s0 = 0 → Q (some (.int ((-10000) - (σ.2.1 11 (x1 : Int32).toNatClampNeg)))) σ) : Tn G T w mX2_read 80 [(0, .ref T), (1, .int x1)] [.int s0] σ Q := by
  refine p_if_eq 46 83 94 rfl rfl rfl (fun c1 => ?_) (fun c1 => ?_)
  · refine p_iinc (v := (x1 + 1)) (lv' := [(1, .int (x1 + 1)), (0, .ref T)]) 54 97 1 rfl rfl rfl (congrArg (fun z => x1 + z) ci_1) (Nat.le_of_ble_eq_true rfl) rfl ?_
    refine p_goto 55 62 rfl rfl ?_
    exact p_sub [1, 0] rfl (k1 c1)
  · refine p_sipush 47 86 rfl rfl cs_m10000 ?_
    refine p_aload_n 48 87 0 rfl rfl rfl ?_
    refine t_geti (v := .ref (T + 10)) fl_X2_38 49 90 rfl rfl rfl ?_
    refine p_iload_n 50 91 1 rfl rfl rfl ?_
    refine t_iald (d := 10) (f := 11) (v := (σ.2.1 11 (x1 : Int32).toNatClampNeg)) 51 92 rfl rfl td_10 rfl tf_11 (b1 c1) rfl ?_
    refine p_isub 52 93 rfl rfl ?_
    exact t_iret 53 rfl rfl rfl (k2 c1)
theorem b_read_115 {G : Gm} {T : Nat} {w : Wd} {σ : TW} {Q : Option Value → TW → Prop} {x1 : Int32} (b1 : vp_in 1 3) (b2 : (40 + (σ.2.1 10 (1 : Int32).toNatClampNeg)) ≤ x1 → vp_in 0 3) (k1 : (40 + (σ.2.1 10 (1 : Int32).toNatClampNeg)) ≤ x1 → Q (some (.int (σ.2.1 10 (0 : Int32).toNatClampNeg))) (tsI σ 1 0)) (k2 : ¬ (40 + (σ.2.1 10 (1 : Int32).toNatClampNeg)) ≤ x1 → Tn G T w mX2_read 133 [(0, .ref T), (1, .int x1), (2, .int 0), (3, .int 40)] [] σ Q) : Tn G T w mX2_read 115 [(0, .ref T), (1, .int x1)] [] σ Q := by
  refine p_iload_n 66 116 1 rfl rfl rfl ?_
  refine p_bipush 67 118 rfl rfl cb_40 ?_
  refine p_aload_n 68 119 0 rfl rfl rfl ?_
  refine t_geti (v := .ref (T + 9)) fl_X2_35 69 122 rfl rfl rfl ?_
  refine p_iconst 70 123 rfl rfl ci_1 ?_
  refine t_iald (d := 9) (f := 10) (v := (σ.2.1 10 (1 : Int32).toNatClampNeg)) 71 124 rfl rfl td_9 rfl tf_10 b1 rfl ?_
  refine p_iadd 72 125 rfl rfl ?_
  refine p_icmp_ge 73 128 187 rfl rfl rfl (fun c1 => ?_) (fun c1 => ?_)
  · refine p_aload_n 109 188 0 rfl rfl rfl ?_
    refine p_iconst 110 189 rfl rfl ci_0 ?_
    refine t_puti fl_X2_79 111 192 rfl rfl rfl rfl (by decide) (tws_1 _ _ _) ?_
    refine p_aload_n 112 193 0 rfl rfl rfl ?_
    refine t_geti (v := .ref (T + 9)) fl_X2_35 113 196 rfl rfl rfl ?_
    refine p_iconst 114 197 rfl rfl ci_0 ?_
    refine t_iald (d := 9) (f := 10) (v := (σ.2.1 10 (0 : Int32).toNatClampNeg)) 115 198 rfl rfl td_9 rfl tf_10 (b2 c1) rfl ?_
    exact t_iret 116 rfl rfl rfl (k1 c1)
  · refine p_iconst 74 129 rfl rfl ci_0 ?_
    refine p_istore_n (lv' := [(2, .int 0), (0, .ref T), (1, .int x1)]) 75 130 rfl rfl (Nat.le_of_ble_eq_true rfl) rfl ?_
    refine p_bipush 76 132 rfl rfl cb_40 ?_
    refine p_istore_n (lv' := [(3, .int 40), (2, .int 0), (0, .ref T), (1, .int x1)]) 77 133 rfl rfl (Nat.le_of_ble_eq_true rfl) rfl ?_
    exact p_sub [2, 3, 1, 0] rfl (k2 c1)
theorem b_read_133 {G : Gm} {T : Nat} {w : Wd} {σ : TW} {Q : Option Value → TW → Prop} {x1 : Int32} {x2 : Int32} {x3 : Int32} (b1 : vp_in 1 3) {Q1 : TW → Prop} (e1 : (40 + (σ.2.1 10 (1 : Int32).toNatClampNeg)) ≤ x3 → Tvv G T w mX2_copy (.ref T :: [.int x2, .int x1]) σ Q1) (k1 : (40 + (σ.2.1 10 (1 : Int32).toNatClampNeg)) ≤ x3 → ∀ σ1, Q1 σ1 → Tn G T w mX2_read 181 [(0, .ref T), (1, .int x1)] [] σ1 Q) (b2 : ¬ (40 + (σ.2.1 10 (1 : Int32).toNatClampNeg)) ≤ x3 → vp_in x3 120) (b3 : ¬ (40 + (σ.2.1 10 (1 : Int32).toNatClampNeg)) ≤ x3 → vp_in x1 120) (k2 : ¬ (40 + (σ.2.1 10 (1 : Int32).toNatClampNeg)) ≤ x3 → (σ.2.1 11 (x1 : Int32).toNatClampNeg) ≤ (σ.2.1 11 (x3 : Int32).toNatClampNeg) → Tn G T w mX2_read 133 [(0, .ref T), (1, .int x1), (2, .int (x2 + 0)), (3, .int (x3 + 1))] [] σ Q) (k3 : ¬ (40 + (σ.2.1 10 (1 : Int32).toNatClampNeg)) ≤ x3 → ¬ (σ.2.1 11 (x1 : Int32).toNatClampNeg) ≤ (σ.2.1 11 (x3 : Int32).toNatClampNeg) → Tn G T w mX2_read 133 [(0, .ref T), (1, .int x1), (2, .int (x2 + 1)), (3, .int (x3 + 1))] [] σ Q) : Tn G T w mX2_read 133 [(0, .ref T), (1, .int x1), (2, .int x2), (3, .int x3)] [] σ Q := by
  refine p_iload_n 78 134 3 rfl rfl rfl ?_
  refine p_bipush 79 136 rfl rfl cb_40 ?_
  refine p_aload_n 80 137 0 rfl rfl rfl ?_
  refine t_geti (v := .ref (T + 9)) fl_X2_35 81 140 rfl rfl rfl ?_
  refine p_iconst 82 141 rfl rfl ci_1 ?_
  refine t_iald (d := 9) (f := 10) (v := (σ.2.1 10 (1 : Int32).toNatClampNeg)) 83 142 rfl rfl td_9 rfl tf_10 b1 rfl ?_
  refine p_iadd 84 143 rfl rfl ?_
  refine p_icmp_ge 85 146 175 rfl rfl rfl (fun c1 => ?_) (fun c1 => ?_)
  · refine p_aload_n 103 176 0 rfl rfl rfl ?_
    refine p_iload_n 104 177 2 rfl rfl rfl ?_
    refine p_iload_n 105 178 1 rfl rfl rfl ?_
    exact t_cVv lk_X2_155 106 181 rfl rfl (by decide) [.int x2, .int x1] rfl rfl (Nat.le_of_ble_eq_true rfl) (Nat.le_of_ble_eq_true rfl) (e1 c1) (fun σ1 h => p_sub [0, 1] rfl (k1 c1 σ1 h))
  · refine p_iload_n 86 147 2 rfl rfl rfl ?_
    refine p_aload_n 87 148 0 rfl rfl rfl ?_
    refine t_geti (v := .ref (T + 10)) fl_X2_38 88 151 rfl rfl rfl ?_
    refine p_iload_n 89 152 3 rfl rfl rfl ?_
    refine t_iald (d := 10) (f := 11) (v := (σ.2.1 11 (x3 : Int32).toNatClampNeg)) 90 153 rfl rfl td_10 rfl tf_11 (b2 c1) rfl ?_
    refine p_aload_n 91 154 0 rfl rfl rfl ?_
    refine t_geti (v := .ref (T + 10)) fl_X2_38 92 157 rfl rfl rfl ?_
    refine p_iload_n 93 158 1 rfl rfl rfl ?_
    refine t_iald (d := 10) (f := 11) (v := (σ.2.1 11 (x1 : Int32).toNatClampNeg)) 94 159 rfl rfl td_10 rfl tf_11 (b3 c1) rfl ?_
    refine p_icmp_ge 95 162 166 rfl rfl rfl (fun c2 => ?_) (fun c2 => ?_)
    · refine p_iconst 98 167 rfl rfl ci_0 ?_
      refine p_iadd 99 168 rfl rfl ?_
      refine p_istore_n (lv' := [(2, .int (x2 + 0)), (0, .ref T), (1, .int x1), (3, .int x3)]) 100 169 rfl rfl (Nat.le_of_ble_eq_true rfl) rfl ?_
      refine p_iinc (v := (x3 + 1)) (lv' := [(3, .int (x3 + 1)), (2, .int (x2 + 0)), (0, .ref T), (1, .int x1)]) 101 172 3 rfl rfl rfl (congrArg (fun z => x3 + z) ci_1) (Nat.le_of_ble_eq_true rfl) rfl ?_
      refine p_goto 102 133 rfl rfl ?_
      exact p_sub [2, 3, 1, 0] rfl (k2 c1 c2)
    · refine p_iconst 96 163 rfl rfl ci_1 ?_
      refine p_goto 97 167 rfl rfl ?_
      refine p_iadd 99 168 rfl rfl ?_
      refine p_istore_n (lv' := [(2, .int (x2 + 1)), (0, .ref T), (1, .int x1), (3, .int x3)]) 100 169 rfl rfl (Nat.le_of_ble_eq_true rfl) rfl ?_
      refine p_iinc (v := (x3 + 1)) (lv' := [(3, .int (x3 + 1)), (2, .int (x2 + 1)), (0, .ref T), (1, .int x1)]) 101 172 3 rfl rfl rfl (congrArg (fun z => x3 + z) ci_1) (Nat.le_of_ble_eq_true rfl) rfl ?_
      refine p_goto 102 133 rfl rfl ?_
      exact p_sub [2, 3, 1, 0] rfl (k3 c1 c2)
theorem b_read_181 {G : Gm} {T : Nat} {w : Wd} {σ : TW} {Q : Option Value → TW → Prop} {x1 : Int32} (k1 : Tn G T w mX2_read 115 [(0, .ref T), (1, .int (x1 + 1))] [] σ Q) : Tn G T w mX2_read 181 [(0, .ref T), (1, .int x1)] [] σ Q := by
  refine p_iinc (v := (x1 + 1)) (lv' := [(1, .int (x1 + 1)), (0, .ref T)]) 107 184 1 rfl rfl rfl (congrArg (fun z => x1 + z) ci_1) (Nat.le_of_ble_eq_true rfl) rfl ?_
  refine p_goto 108 115 rfl rfl ?_
  exact p_sub [1, 0] rfl (k1 )
theorem b_oneLine_0 {G : Gm} {T : Nat} {w : Wd} {σ : TW} {Q : Option Value → TW → Prop} {Q1 : Int32 → TW → Prop} (e1 : Tvi G T w mX2_peek (.ref T :: []) σ Q1) (k1 : ∀ (y1 : Int32) σ1, Q1 y1 σ1 → Tn G T w mX2_oneLine 4 [(0, .ref T)] [.int y1] σ1 Q) : Tn G T w mX2_oneLine 0 [(0, .ref T)] [] σ Q := by
  refine p_aload_n 0 1 0 rfl rfl rfl ?_
  exact t_cVi lk_X2_88 1 4 rfl rfl (by decide) [] rfl rfl (Nat.le_of_ble_eq_true rfl) (Nat.le_of_ble_eq_true rfl) (e1 ) (fun x σ1 h => k1 x σ1 h)
theorem b_oneLine_4 {G : Gm} {T : Nat} {w : Wd} {σ : TW} {Q : Option Value → TW → Prop} {s0 : Int32} {Q1 : TW → Prop} (e1 : ¬ s0 = 35 → Tvv G T w mX2_wrongAt (.ref T :: [.int (σ.1 18)]) σ Q1) (k1 : ¬ s0 = 35 → ∀ σ1, Q1 σ1 → Tn G T w mX2_oneLine 28 [] [] σ1 Q) (b1 : s0 = 35 → vp_in 1 3) {Q2 : Int32 → TW → Prop} (e2 : s0 = 35 → ¬ (σ.2.1 10 (1 : Int32).toNatClampNeg) = 40 → Tvi G T w mX2_digits (.ref T :: [.int 3, .int (-1)]) (tsI σ 18 ((σ.1 18) + 1)) Q2) (k2 : s0 = 35 → ¬ (σ.2.1 10 (1 : Int32).toNatClampNeg) = 40 → ∀ (y2 : Int32) σ2, Q2 y2 σ2 → Tn G T w mX2_oneLine 55 [(0, .ref T), (1, .int (40 + (σ.2.1 10 (1 : Int32).toNatClampNeg)))] [.int y2] σ2 Q) {Q3 : TW → Prop} (e3 : s0 = 35 → (σ.2.1 10 (1 : Int32).toNatClampNeg) = 40 → Tvv G T w mX2_wrongAt (.ref T :: [.int (σ.1 18)]) σ Q3) (k3 : s0 = 35 → (σ.2.1 10 (1 : Int32).toNatClampNeg) = 40 → ∀ σ3, Q3 σ3 → Tn G T w mX2_oneLine 28 [] [] σ3 Q) : Tn G T w mX2_oneLine 4 [(0, .ref T)] [.int s0] σ Q := by
  refine p_bipush 2 6 rfl rfl cb_35 ?_
  refine p_icmp_ne 3 9 20 rfl rfl rfl (fun c1 => ?_) (fun c1 => ?_)
  · refine p_aload_n 10 21 0 rfl rfl rfl ?_
    refine p_aload_n 11 22 0 rfl rfl rfl ?_
    refine t_geti (v := .int (σ.1 18)) fl_X2_82 12 25 rfl rfl rfl ?_
    exact t_cVv lk_X2_92 13 28 rfl rfl (by decide) [.int (σ.1 18)] rfl rfl (Nat.le_of_ble_eq_true rfl) (Nat.le_of_ble_eq_true rfl) (e1 c1) (fun σ1 h => p_sub [] rfl (k1 c1 σ1 h))
  · refine p_aload_n 4 10 0 rfl rfl rfl ?_
    refine t_geti (v := .ref (T + 9)) fl_X2_35 5 13 rfl rfl rfl ?_
    refine p_iconst 6 14 rfl rfl ci_1 ?_
    refine t_iald (d := 9) (f := 10) (v := (σ.2.1 10 (1 : Int32).toNatClampNeg)) 7 15 rfl rfl td_9 rfl tf_10 (b1 c1) rfl ?_
    refine p_bipush 8 17 rfl rfl cb_40 ?_
    refine p_icmp_ne 9 20 29 rfl rfl rfl (fun c2 => ?_) (fun c2 => ?_)
    · refine p_aload_n 15 30 0 rfl rfl rfl ?_
      refine p_dup 16 31 rfl rfl rfl ?_
      refine t_geti (v := .int (σ.1 18)) fl_X2_82 17 34 rfl rfl rfl ?_
      refine p_iconst 18 35 rfl rfl ci_1 ?_
      refine p_iadd 19 36 rfl rfl ?_
      refine t_puti fl_X2_82 20 39 rfl rfl rfl rfl (by decide) (tws_18 _ _ _) ?_
      refine p_bipush 21 41 rfl rfl cb_40 ?_
      refine p_aload_n 22 42 0 rfl rfl rfl ?_
      refine t_geti (v := .ref (T + 9)) fl_X2_35 23 45 rfl rfl rfl ?_
      refine p_iconst 24 46 rfl rfl ci_1 ?_
      refine t_iald (d := 9) (f := 10) (v := (σ.2.1 10 (1 : Int32).toNatClampNeg)) 25 47 rfl rfl td_9 rfl tf_10 (b1 c1) rfl ?_
      refine p_iadd 26 48 rfl rfl ?_
      refine p_istore_n (lv' := [(1, .int (40 + (σ.2.1 10 (1 : Int32).toNatClampNeg))), (0, .ref T)]) 27 49 rfl rfl (Nat.le_of_ble_eq_true rfl) rfl ?_
      refine p_aload_n 28 50 1 rfl rfl rfl ?_
      refine p_iconst 29 51 rfl rfl ci_3 ?_
      refine p_iconst 30 52 rfl rfl ci_m1 ?_
      exact t_cVi lk_X2_106 31 55 rfl rfl (by decide) [.int 3, .int (-1)] rfl rfl (Nat.le_of_ble_eq_true rfl) (Nat.le_of_ble_eq_true rfl) (e2 c1 c2) (fun x σ1 h => p_sub [1, 0] rfl (k2 c1 c2 x σ1 h))
    · refine p_aload_n 10 21 0 rfl rfl rfl ?_
      refine p_aload_n 11 22 0 rfl rfl rfl ?_
      refine t_geti (v := .int (σ.1 18)) fl_X2_82 12 25 rfl rfl rfl ?_
      exact t_cVv lk_X2_92 13 28 rfl rfl (by decide) [.int (σ.1 18)] rfl rfl (Nat.le_of_ble_eq_true rfl) (Nat.le_of_ble_eq_true rfl) (e3 c1 c2) (fun σ1 h => p_sub [] rfl (k3 c1 c2 σ1 h))
theorem b_oneLine_28 {G : Gm} {T : Nat} {w : Wd} {σ : TW} {Q : Option Value → TW → Prop} (k1 : Q none σ) : Tn G T w mX2_oneLine 28 [] [] σ Q := by
  exact t_vret 14 rfl rfl (k1 )
theorem b_oneLine_55 {G : Gm} {T : Nat} {w : Wd} {σ : TW} {Q : Option Value → TW → Prop} {x1 : Int32} {s0 : Int32} {Q1 : TW → Prop} (e1 : s0 = 0 → Tvv G T w mX2_wrongAt (.ref T :: [.int (σ.1 20)]) σ Q1) (k1 : s0 = 0 → ∀ σ1, Q1 σ1 → Tn G T w mX2_oneLine 78 [(0, .ref T), (1, .int x1), (2, .int s0)] [] σ1 Q) {Q2 : Int32 → TW → Prop} (e2 : ¬ s0 = 0 → Tvi G T w mX2_find (.ref T :: [.int 1, .int s0]) σ Q2) (k2 : ¬ s0 = 0 → ∀ (y2 : Int32) σ2, Q2 y2 σ2 → Tn G T w mX2_oneLine 66 [(0, .ref T), (1, .int x1), (2, .int s0)] [.int y2] σ2 Q) : Tn G T w mX2_oneLine 55 [(0, .ref T), (1, .int x1)] [.int s0] σ Q := by
  refine p_istore_n (lv' := [(2, .int s0), (0, .ref T), (1, .int x1)]) 32 56 rfl rfl (Nat.le_of_ble_eq_true rfl) rfl ?_
  refine p_iload_n 33 57 0 rfl rfl rfl ?_
  refine p_if_eq 34 60 70 rfl rfl rfl (fun c1 => ?_) (fun c1 => ?_)
  · refine p_aload_n 41 71 1 rfl rfl rfl ?_
    refine p_aload_n 42 72 1 rfl rfl rfl ?_
    refine t_geti (v := .int (σ.1 20)) fl_X2_96 43 75 rfl rfl rfl ?_
    exact t_cVv lk_X2_92 44 78 rfl rfl (by decide) [.int (σ.1 20)] rfl rfl (Nat.le_of_ble_eq_true rfl) (Nat.le_of_ble_eq_true rfl) (e1 c1) (fun σ1 h => p_sub [1, 2, 0] rfl (k1 c1 σ1 h))
  · refine p_aload_n 35 61 1 rfl rfl rfl ?_
    refine p_iconst 36 62 rfl rfl ci_1 ?_
    refine p_iload_n 37 63 0 rfl rfl rfl ?_
    exact t_cVi lk_X2_143 38 66 rfl rfl (by decide) [.int 1, .int s0] rfl rfl (Nat.le_of_ble_eq_true rfl) (Nat.le_of_ble_eq_true rfl) (e2 c1) (fun x σ1 h => p_sub [1, 2, 0] rfl (k2 c1 x σ1 h))
theorem b_oneLine_66 {G : Gm} {T : Nat} {w : Wd} {σ : TW} {Q : Option Value → TW → Prop} {x1 : Int32} {x2 : Int32} {s0 : Int32} (k1 : s0 = (-1) → Tn G T w mX2_oneLine 78 [(0, .ref T), (1, .int x1), (2, .int x2)] [] σ Q) {Q2 : TW → Prop} (e2 : ¬ s0 = (-1) → Tvv G T w mX2_wrongAt (.ref T :: [.int (σ.1 20)]) σ Q2) (k2 : ¬ s0 = (-1) → ∀ σ2, Q2 σ2 → Tn G T w mX2_oneLine 78 [(0, .ref T), (1, .int x1), (2, .int x2)] [] σ2 Q) : Tn G T w mX2_oneLine 66 [(0, .ref T), (1, .int x1), (2, .int x2)] [.int s0] σ Q := by
  refine p_iconst 39 67 rfl rfl ci_m1 ?_
  refine p_icmp_eq 40 70 78 rfl rfl rfl (fun c1 => ?_) (fun c1 => ?_)
  · exact k1 c1
  · refine p_aload_n 41 71 0 rfl rfl rfl ?_
    refine p_aload_n 42 72 0 rfl rfl rfl ?_
    refine t_geti (v := .int (σ.1 20)) fl_X2_96 43 75 rfl rfl rfl ?_
    exact t_cVv lk_X2_92 44 78 rfl rfl (by decide) [.int (σ.1 20)] rfl rfl (Nat.le_of_ble_eq_true rfl) (Nat.le_of_ble_eq_true rfl) (e2 c1) (fun σ1 h => k2 c1 σ1 h)
theorem b_oneLine_78 {G : Gm} {T : Nat} {w : Wd} {σ : TW} {Q : Option Value → TW → Prop} {x1 : Int32} {x2 : Int32} (b1 : vp_in x1 120) {Q1 : TW → Prop} (e1 : Tvv G T w mX2_sign (.ref T :: [.int 61]) (tsA σ 11 (x1 : Int32).toNatClampNeg x2) Q1) (k1 : ∀ σ1, Q1 σ1 → Tn G T w mX2_oneLine 91 [(0, .ref T), (1, .int x1)] [] σ1 Q) : Tn G T w mX2_oneLine 78 [(0, .ref T), (1, .int x1), (2, .int x2)] [] σ Q := by
  refine p_aload_n 45 79 0 rfl rfl rfl ?_
  refine t_geti (v := .ref (T + 10)) fl_X2_38 46 82 rfl rfl rfl ?_
  refine p_iload_n 47 83 1 rfl rfl rfl ?_
  refine p_iload_n 48 84 2 rfl rfl rfl ?_
  refine t_iast (d := 10) (f := 11) 49 85 rfl rfl td_10 rfl tf_11 b1 ?_
  refine p_aload_n 50 86 0 rfl rfl rfl ?_
  refine p_bipush 51 88 rfl rfl cb_61 ?_
  exact t_cVv lk_X2_110 52 91 rfl rfl (by decide) [.int 61] rfl rfl (Nat.le_of_ble_eq_true rfl) (Nat.le_of_ble_eq_true rfl) (e1 ) (fun σ1 h => p_sub [0, 1] rfl (k1 σ1 h))
theorem b_oneLine_91 {G : Gm} {T : Nat} {w : Wd} {σ : TW} {Q : Option Value → TW → Prop} {x1 : Int32} {Q1 : Int32 → TW → Prop} (e1 : Tvi G T w mX2_name (.ref T :: [.ref (T + 12), .int (8 * x1)]) σ Q1) (k1 : ∀ (y1 : Int32) σ1, Q1 y1 σ1 → Tn G T w mX2_oneLine 108 [(0, .ref T), (1, .int x1)] [.int y1, .int x1, .ref (T + 11)] σ1 Q) : Tn G T w mX2_oneLine 91 [(0, .ref T), (1, .int x1)] [] σ Q := by
  refine p_aload_n 53 92 0 rfl rfl rfl ?_
  refine t_geti (v := .ref (T + 11)) fl_X2_41 54 95 rfl rfl rfl ?_
  refine p_iload_n 55 96 1 rfl rfl rfl ?_
  refine p_aload_n 56 97 0 rfl rfl rfl ?_
  refine p_aload_n 57 98 0 rfl rfl rfl ?_
  refine t_geti (v := .ref (T + 12)) fl_X2_44 58 101 rfl rfl rfl ?_
  refine p_bipush 59 103 rfl rfl cb_8 ?_
  refine p_iload_n 60 104 1 rfl rfl rfl ?_
  refine p_imul 61 105 rfl rfl ?_
  exact t_cVi lk_X2_113 62 108 rfl rfl (by decide) [.ref (T + 12), .int (8 * x1)] rfl rfl (Nat.le_of_ble_eq_true rfl) (Nat.le_of_ble_eq_true rfl) (e1 ) (fun x σ1 h => k1 x σ1 h)
theorem b_oneLine_108 {G : Gm} {T : Nat} {w : Wd} {σ : TW} {Q : Option Value → TW → Prop} {x1 : Int32} {s0 : Int32} {s1 : Int32} (b1 : vp_in s1 120) {Q1 : TW → Prop} (e1 : Tvv G T w mX2_sign (.ref T :: [.int 40]) (tsA σ 12 (s1 : Int32).toNatClampNeg s0) Q1) (k1 : ∀ σ1, Q1 σ1 → Tn G T w mX2_oneLine 115 [(0, .ref T), (1, .int x1)] [] σ1 Q) : Tn G T w mX2_oneLine 108 [(0, .ref T), (1, .int x1)] [.int s0, .int s1, .ref (T + 11)] σ Q := by
  refine t_iast (d := 11) (f := 12) 63 109 rfl rfl td_11 rfl tf_12 b1 ?_
  refine p_aload_n 64 110 0 rfl rfl rfl ?_
  refine p_bipush 65 112 rfl rfl cb_40 ?_
  exact t_cVv lk_X2_110 66 115 rfl rfl (by decide) [.int 40] rfl rfl (Nat.le_of_ble_eq_true rfl) (Nat.le_of_ble_eq_true rfl) (e1 ) (fun σ1 h => k1 σ1 h)
theorem b_oneLine_115 {G : Gm} {T : Nat} {w : Wd} {σ : TW} {Q : Option Value → TW → Prop} {x1 : Int32} (k1 : Tn G T w mX2_oneLine 120 [(0, .ref T), (1, .int x1), (3, .int 0), (4, .int 1)] [] σ Q) : Tn G T w mX2_oneLine 115 [(0, .ref T), (1, .int x1)] [] σ Q := by
  refine p_iconst 67 116 rfl rfl ci_0 ?_
  refine p_istore_n (lv' := [(3, .int 0), (0, .ref T), (1, .int x1)]) 68 117 rfl rfl (Nat.le_of_ble_eq_true rfl) rfl ?_
  refine p_iconst 69 118 rfl rfl ci_1 ?_
  refine p_istore (lv' := [(4, .int 1), (3, .int 0), (0, .ref T), (1, .int x1)]) 70 120 rfl rfl (Nat.le_of_ble_eq_true rfl) rfl ?_
  exact p_sub [2, 3, 1, 0] rfl (k1 )
theorem b_oneLine_120 {G : Gm} {T : Nat} {w : Wd} {σ : TW} {Q : Option Value → TW → Prop} {x1 : Int32} {x3 : Int32} {x4 : Int32} {Q1 : TW → Prop} (e1 : x4 = 0 → Tvv G T w mX2_sign (.ref T :: [.int 41]) σ Q1) (k1 : x4 = 0 → ∀ σ1, Q1 σ1 → Tn G T w mX2_oneLine 216 [(0, .ref T), (1, .int x1), (3, .int x3)] [] σ1 Q) {Q2 : TW → Prop} (e2 : ¬ x4 = 0 → ¬ (σ.1 19) = (-1) → Tvv G T w mX2_sign (.ref T :: [.int 41]) σ Q2) (k2 : ¬ x4 = 0 → ¬ (σ.1 19) = (-1) → ∀ σ2, Q2 σ2 → Tn G T w mX2_oneLine 216 [(0, .ref T), (1, .int x1), (3, .int x3)] [] σ2 Q) {Q3 : Int32 → TW → Prop} (e3 : ¬ x4 = 0 → (σ.1 19) = (-1) → Tvi G T w mX2_peek (.ref T :: []) σ Q3) (k3 : ¬ x4 = 0 → (σ.1 19) = (-1) → ∀ (y3 : Int32) σ3, Q3 y3 σ3 → Tn G T w mX2_oneLine 137 [(0, .ref T), (1, .int x1), (3, .int x3), (4, .int x4)] [.int y3] σ3 Q) : Tn G T w mX2_oneLine 120 [(0, .ref T), (1, .int x1), (3, .int x3), (4, .int x4)] [] σ Q := by
  refine p_iload 71 122 3 rfl rfl rfl ?_
  refine p_if_eq 72 125 210 rfl rfl rfl (fun c1 => ?_) (fun c1 => ?_)
  · refine p_aload_n 117 211 0 rfl rfl rfl ?_
    refine p_bipush 118 213 rfl rfl cb_41 ?_
    exact t_cVv lk_X2_110 119 216 rfl rfl (by decide) [.int 41] rfl rfl (Nat.le_of_ble_eq_true rfl) (Nat.le_of_ble_eq_true rfl) (e1 c1) (fun σ1 h => p_sub [0, 1, 2] rfl (k1 c1 σ1 h))
  · refine p_aload_n 73 126 0 rfl rfl rfl ?_
    refine t_geti (v := .int (σ.1 19)) fl_X2_85 74 129 rfl rfl rfl ?_
    refine p_iconst 75 130 rfl rfl ci_m1 ?_
    refine p_icmp_ne 76 133 210 rfl rfl rfl (fun c2 => ?_) (fun c2 => ?_)
    · refine p_aload_n 117 211 0 rfl rfl rfl ?_
      refine p_bipush 118 213 rfl rfl cb_41 ?_
      exact t_cVv lk_X2_110 119 216 rfl rfl (by decide) [.int 41] rfl rfl (Nat.le_of_ble_eq_true rfl) (Nat.le_of_ble_eq_true rfl) (e2 c1 c2) (fun σ1 h => p_sub [0, 1, 2] rfl (k2 c1 c2 σ1 h))
    · refine p_aload_n 77 134 0 rfl rfl rfl ?_
      exact t_cVi lk_X2_88 78 137 rfl rfl (by decide) [] rfl rfl (Nat.le_of_ble_eq_true rfl) (Nat.le_of_ble_eq_true rfl) (e3 c1 c2) (fun x σ1 h => k3 c1 c2 x σ1 h)
theorem b_oneLine_137 {G : Gm} {T : Nat} {w : Wd} {σ : TW} {Q : Option Value → TW → Prop} {x1 : Int32} {x3 : Int32} {x4 : Int32} {s0 : Int32} {Q1 : TW → Prop} (e1 : ¬ x3 = 8 → Tvv G T w mX2_argument (.ref T :: [.int ((8 * x1) + x3)]) σ Q1) (k1 : ¬ x3 = 8 → ∀ σ1, Q1 σ1 → Tn G T w mX2_oneLine 165 [(0, .ref T), (1, .int x1), (3, .int x3)] [] σ1 Q) {Q2 : TW → Prop} (e2 : x3 = 8 → Tvv G T w mX2_wrongAt (.ref T :: [.int (σ.1 18)]) σ Q2) (k2 : x3 = 8 → ∀ σ2, Q2 σ2 → Tn G T w mX2_oneLine 152 [(0, .ref T), (1, .int x1), (3, .int x3), (4, .int x4)] [] σ2 Q) : Tn G T w mX2_oneLine 137 [(0, .ref T), (1, .int x1), (3, .int x3), (4, .int x4)] [.int s0] σ Q := by
  refine p_pop 79 138 rfl rfl rfl ?_
  refine p_iload_n 80 139 2 rfl rfl rfl ?_
  refine p_bipush 81 141 rfl rfl cb_8 ?_
  refine p_icmp_ne 82 144 155 rfl rfl rfl (fun c1 => ?_) (fun c1 => ?_)
  · refine p_aload_n 88 156 0 rfl rfl rfl ?_
    refine p_bipush 89 158 rfl rfl cb_8 ?_
    refine p_iload_n 90 159 1 rfl rfl rfl ?_
    refine p_imul 91 160 rfl rfl ?_
    refine p_iload_n 92 161 2 rfl rfl rfl ?_
    refine p_iadd 93 162 rfl rfl ?_
    exact t_cVv lk_X2_146 94 165 rfl rfl (by decide) [.int ((8 * x1) + x3)] rfl rfl (Nat.le_of_ble_eq_true rfl) (Nat.le_of_ble_eq_true rfl) (e1 c1) (fun σ1 h => p_sub [0, 1, 2] rfl (k1 c1 σ1 h))
  · refine p_aload_n 83 145 0 rfl rfl rfl ?_
    refine p_aload_n 84 146 0 rfl rfl rfl ?_
    refine t_geti (v := .int (σ.1 18)) fl_X2_82 85 149 rfl rfl rfl ?_
    exact t_cVv lk_X2_92 86 152 rfl rfl (by decide) [.int (σ.1 18)] rfl rfl (Nat.le_of_ble_eq_true rfl) (Nat.le_of_ble_eq_true rfl) (e2 c1) (fun σ1 h => k2 c1 σ1 h)
theorem b_oneLine_152 {G : Gm} {T : Nat} {w : Wd} {σ : TW} {Q : Option Value → TW → Prop} {x1 : Int32} {x3 : Int32} {x4 : Int32} (k1 : Tn G T w mX2_oneLine 120 [(0, .ref T), (1, .int x1), (3, .int x3), (4, .int x4)] [] σ Q) : Tn G T w mX2_oneLine 152 [(0, .ref T), (1, .int x1), (3, .int x3), (4, .int x4)] [] σ Q := by
  refine p_goto 87 120 rfl rfl ?_
  exact k1 
theorem b_oneLine_165 {G : Gm} {T : Nat} {w : Wd} {σ : TW} {Q : Option Value → TW → Prop} {x1 : Int32} {x3 : Int32} (k1 : ¬ (σ.1 19) = (-1) → Tn G T w mX2_oneLine 120 [(0, .ref T), (1, .int x1), (3, .int (x3 + 1)), (4, .int 0)] [] σ Q) {Q2 : Int32 → TW → Prop} (e2 : (σ.1 19) = (-1) → Tvi G T w mX2_peek (.ref T :: []) σ Q2) (k2 : (σ.1 19) = (-1) → ∀ (y2 : Int32) σ2, Q2 y2 σ2 → Tn G T w mX2_oneLine 180 [(0, .ref T), (1, .int x1), (3, .int (x3 + 1))] [.int y2] σ2 Q) : Tn G T w mX2_oneLine 165 [(0, .ref T), (1, .int x1), (3, .int x3)] [] σ Q := by
  refine p_iinc (v := (x3 + 1)) (lv' := [(3, .int (x3 + 1)), (0, .ref T), (1, .int x1)]) 95 168 2 rfl rfl rfl (congrArg (fun z => x3 + z) ci_1) (Nat.le_of_ble_eq_true rfl) rfl ?_
  refine p_aload_n 96 169 1 rfl rfl rfl ?_
  refine t_geti (v := .int (σ.1 19)) fl_X2_85 97 172 rfl rfl rfl ?_
  refine p_iconst 98 173 rfl rfl ci_m1 ?_
  refine p_icmp_ne 99 176 189 rfl rfl rfl (fun c1 => ?_) (fun c1 => ?_)
  · refine p_iconst 106 190 rfl rfl ci_0 ?_
    refine p_istore (lv' := [(4, .int 0), (3, .int (x3 + 1)), (0, .ref T), (1, .int x1)]) 107 192 rfl rfl (Nat.le_of_ble_eq_true rfl) rfl ?_
    refine p_iload 108 194 0 rfl rfl rfl ?_
    refine p_if_eq 109 197 120 rfl rfl rfl (fun _ => ?_) (fun c => absurd c (by decide))
    exact p_sub [2, 3, 1, 0] rfl (k1 c1)
  · refine p_aload_n 100 177 1 rfl rfl rfl ?_
    exact t_cVi lk_X2_88 101 180 rfl rfl (by decide) [] rfl rfl (Nat.le_of_ble_eq_true rfl) (Nat.le_of_ble_eq_true rfl) (e2 c1) (fun x σ1 h => p_sub [1, 2, 0] rfl (k2 c1 x σ1 h))
theorem b_oneLine_180 {G : Gm} {T : Nat} {w : Wd} {σ : TW} {Q : Option Value → TW → Prop} {x1 : Int32} {x3 : Int32} {s0 : Int32} (k1 : ¬ s0 = 44 → Tn G T w mX2_oneLine 120 [(0, .ref T), (1, .int x1), (3, .int x3), (4, .int 0)] [] σ Q) (k2 : s0 = 44 → Tn G T w mX2_oneLine 120 [(0, .ref T), (1, .int x1), (3, .int x3), (4, .int 1)] [] (tsI σ 18 ((σ.1 18) + 1)) Q) : Tn G T w mX2_oneLine 180 [(0, .ref T), (1, .int x1), (3, .int x3)] [.int s0] σ Q := by
  refine p_bipush 102 182 rfl rfl cb_44 ?_
  refine p_icmp_ne 103 185 189 rfl rfl rfl (fun c1 => ?_) (fun c1 => ?_)
  · refine p_iconst 106 190 rfl rfl ci_0 ?_
    refine p_istore (lv' := [(4, .int 0), (0, .ref T), (1, .int x1), (3, .int x3)]) 107 192 rfl rfl (Nat.le_of_ble_eq_true rfl) rfl ?_
    refine p_iload 108 194 0 rfl rfl rfl ?_
    refine p_if_eq 109 197 120 rfl rfl rfl (fun _ => ?_) (fun c => absurd c (by decide))
    exact p_sub [1, 2, 3, 0] rfl (k1 c1)
  · refine p_iconst 104 186 rfl rfl ci_1 ?_
    refine p_goto 105 190 rfl rfl ?_
    refine p_istore (lv' := [(4, .int 1), (0, .ref T), (1, .int x1), (3, .int x3)]) 107 192 rfl rfl (Nat.le_of_ble_eq_true rfl) rfl ?_
    refine p_iload 108 194 0 rfl rfl rfl ?_
    refine p_if_eq 109 197 120 rfl rfl rfl (fun c => absurd c (by decide)) (fun _ => ?_)
    refine p_aload_n 110 198 1 rfl rfl rfl ?_
    refine p_dup 111 199 rfl rfl rfl ?_
    refine t_geti (v := .int (σ.1 18)) fl_X2_82 112 202 rfl rfl rfl ?_
    refine p_iconst 113 203 rfl rfl ci_1 ?_
    refine p_iadd 114 204 rfl rfl ?_
    refine t_puti fl_X2_82 115 207 rfl rfl rfl rfl (by decide) (tws_18 _ _ _) ?_
    refine p_goto 116 120 rfl rfl ?_
    exact p_sub [1, 2, 3, 0] rfl (k2 c1)
theorem b_oneLine_216 {G : Gm} {T : Nat} {w : Wd} {σ : TW} {Q : Option Value → TW → Prop} {x1 : Int32} {x3 : Int32} {Q1 : TW → Prop} (e1 : Tvv G T w mX2_sign (.ref T :: [.int 59]) σ Q1) (k1 : ∀ σ1, Q1 σ1 → Tn G T w mX2_oneLine 222 [(0, .ref T), (1, .int x1), (3, .int x3)] [] σ1 Q) : Tn G T w mX2_oneLine 216 [(0, .ref T), (1, .int x1), (3, .int x3)] [] σ Q := by
  refine p_aload_n 120 217 0 rfl rfl rfl ?_
  refine p_bipush 121 219 rfl rfl cb_59 ?_
  exact t_cVv lk_X2_110 122 222 rfl rfl (by decide) [.int 59] rfl rfl (Nat.le_of_ble_eq_true rfl) (Nat.le_of_ble_eq_true rfl) (e1 ) (fun σ1 h => k1 σ1 h)
theorem b_oneLine_222 {G : Gm} {T : Nat} {w : Wd} {σ : TW} {Q : Option Value → TW → Prop} {x1 : Int32} {x3 : Int32} (b1 : vp_in x1 120) (b2 : vp_in 1 3) (k1 : Q none (tsA (tsA σ 14 (x1 : Int32).toNatClampNeg x3) 10 (1 : Int32).toNatClampNeg ((σ.2.1 10 (1 : Int32).toNatClampNeg) + 1))) : Tn G T w mX2_oneLine 222 [(0, .ref T), (1, .int x1), (3, .int x3)] [] σ Q := by
  refine p_aload_n 123 223 0 rfl rfl rfl ?_
  refine t_geti (v := .ref (T + 13)) fl_X2_47 124 226 rfl rfl rfl ?_
  refine p_iload_n 125 227 1 rfl rfl rfl ?_
  refine p_iload_n 126 228 2 rfl rfl rfl ?_
  refine t_iast (d := 13) (f := 14) 127 229 rfl rfl td_13 rfl tf_14 b1 ?_
  refine p_aload_n 128 230 0 rfl rfl rfl ?_
  refine t_geti (v := .ref (T + 9)) fl_X2_35 129 233 rfl rfl rfl ?_
  refine p_iconst 130 234 rfl rfl ci_1 ?_
  refine p_dup2 131 235 rfl rfl rfl rfl ?_
  refine t_iald (d := 9) (f := 10) (v := (σ.2.1 10 (1 : Int32).toNatClampNeg)) 132 236 rfl rfl td_9 rfl tf_10 b2 rfl ?_
  refine p_iconst 133 237 rfl rfl ci_1 ?_
  refine p_iadd 134 238 rfl rfl ?_
  refine t_iast (d := 9) (f := 10) 135 239 rfl rfl td_9 rfl tf_10 b2 ?_
  exact t_vret 136 rfl rfl (k1 )
theorem b_digits_0 {G : Gm} {T : Nat} {w : Wd} {σ : TW} {Q : Option Value → TW → Prop} {x1 : Int32} {x2 : Int32} {Q1 : Int32 → TW → Prop} (e1 : (σ.1 19) = (-1) → Tvi G T w mX2_peek (.ref T :: []) σ Q1) (k1 : (σ.1 19) = (-1) → ∀ (y1 : Int32) σ1, Q1 y1 σ1 → Tn G T w mX2_digits 14 [(0, .ref T), (1, .int x1), (2, .int x2)] [.int y1] σ1 Q) (k2 : ¬ (σ.1 19) = (-1) → Q (some (.int 0)) σ) : Tn G T w mX2_digits 0 [(0, .ref T), (1, .int x1), (2, .int x2)] [] σ Q := by
  refine p_aload_n 0 1 0 rfl rfl rfl ?_
  refine t_geti (v := .int (σ.1 19)) fl_X2_85 1 4 rfl rfl rfl ?_
  refine p_iconst 2 5 rfl rfl ci_m1 ?_
  refine p_icmp_eq 3 8 10 rfl rfl rfl (fun c1 => ?_) (fun c1 => ?_)
  · refine p_aload_n 6 11 0 rfl rfl rfl ?_
    exact t_cVi lk_X2_88 7 14 rfl rfl (by decide) [] rfl rfl (Nat.le_of_ble_eq_true rfl) (Nat.le_of_ble_eq_true rfl) (e1 c1) (fun x σ1 h => k1 c1 x σ1 h)
  · refine p_iconst 4 9 rfl rfl ci_0 ?_
    exact t_iret 5 rfl rfl rfl (k2 c1)
theorem b_digits_14 {G : Gm} {T : Nat} {w : Wd} {σ : TW} {Q : Option Value → TW → Prop} {x1 : Int32} {x2 : Int32} {s0 : Int32} (k1 : Tn G T w mX2_digits 25 [(0, .ref T), (1, .int x1), (2, .int x2), (3, .int 0)] [] (tsI σ 20 (σ.1 18)) Q) : Tn G T w mX2_digits 14 [(0, .ref T), (1, .int x1), (2, .int x2)] [.int s0] σ Q := by
  refine p_pop 8 15 rfl rfl rfl ?_
  refine p_aload_n 9 16 0 rfl rfl rfl ?_
  refine p_aload_n 10 17 0 rfl rfl rfl ?_
  refine t_geti (v := .int (σ.1 18)) fl_X2_82 11 20 rfl rfl rfl ?_
  refine t_puti fl_X2_96 12 23 rfl rfl rfl rfl (by decide) (tws_20 _ _ _) ?_
  refine p_iconst 13 24 rfl rfl ci_0 ?_
  refine p_istore_n (lv' := [(3, .int 0), (0, .ref T), (1, .int x1), (2, .int x2)]) 14 25 rfl rfl (Nat.le_of_ble_eq_true rfl) rfl ?_
  exact p_sub [1, 2, 3, 0] rfl (k1 )
theorem b_digits_25 {G : Gm} {T : Nat} {w : Wd} {σ : TW} {Q : Option Value → TW → Prop} {x1 : Int32} {x2 : Int32} {x3 : Int32} (k1 : (σ.1 1) ≤ (σ.1 18) → ¬ (σ.1 18) = (σ.1 20) → Tn G T w mX2_digits 115 [(0, .ref T), (1, .int x1), (2, .int x2), (3, .int x3)] [] σ Q) {Q2 : TW → Prop} (e2 : (σ.1 1) ≤ (σ.1 18) → (σ.1 18) = (σ.1 20) → Tvv G T w mX2_wrongAt (.ref T :: [.int (σ.1 18)]) σ Q2) (k2 : (σ.1 1) ≤ (σ.1 18) → (σ.1 18) = (σ.1 20) → ∀ σ2, Q2 σ2 → Tn G T w mX2_digits 115 [(0, .ref T), (1, .int x1), (2, .int x2), (3, .int x3)] [] σ2 Q) (b1 : ¬ (σ.1 1) ≤ (σ.1 18) → vp_in (σ.1 18) 1200) {Q3 : Int32 → Prop} (e3 : ¬ (σ.1 1) ≤ (σ.1 18) → Svi G mX2_isDigit [.int (σ.2.1 2 ((σ.1 18) : Int32).toNatClampNeg)] Q3) (k3 : ¬ (σ.1 1) ≤ (σ.1 18) → ∀ (y3 : Int32), Q3 y3 → Tn G T w mX2_digits 48 [(0, .ref T), (1, .int x1), (2, .int x2), (3, .int x3)] [.int y3] σ Q) : Tn G T w mX2_digits 25 [(0, .ref T), (1, .int x1), (2, .int x2), (3, .int x3)] [] σ Q := by
  refine p_aload_n 15 26 0 rfl rfl rfl ?_
  refine t_geti (v := .int (σ.1 18)) fl_X2_82 16 29 rfl rfl rfl ?_
  refine p_aload_n 17 30 0 rfl rfl rfl ?_
  refine t_geti (v := .int (σ.1 1)) fl_X2_79 18 33 rfl rfl rfl ?_
  refine p_icmp_ge 19 36 96 rfl rfl rfl (fun c1 => ?_) (fun c1 => ?_)
  · refine p_aload_n 53 97 0 rfl rfl rfl ?_
    refine t_geti (v := .int (σ.1 18)) fl_X2_82 54 100 rfl rfl rfl ?_
    refine p_aload_n 55 101 0 rfl rfl rfl ?_
    refine t_geti (v := .int (σ.1 20)) fl_X2_96 56 104 rfl rfl rfl ?_
    refine p_icmp_ne 57 107 115 rfl rfl rfl (fun c2 => ?_) (fun c2 => ?_)
    · exact k1 c1 c2
    · refine p_aload_n 58 108 0 rfl rfl rfl ?_
      refine p_aload_n 59 109 0 rfl rfl rfl ?_
      refine t_geti (v := .int (σ.1 18)) fl_X2_82 60 112 rfl rfl rfl ?_
      exact t_cVv lk_X2_92 61 115 rfl rfl (by decide) [.int (σ.1 18)] rfl rfl (Nat.le_of_ble_eq_true rfl) (Nat.le_of_ble_eq_true rfl) (e2 c1 c2) (fun σ1 h => k2 c1 c2 σ1 h)
  · refine p_aload_n 20 37 0 rfl rfl rfl ?_
    refine t_geti (v := .ref (T + 1)) fl_X2_7 21 40 rfl rfl rfl ?_
    refine p_aload_n 22 41 0 rfl rfl rfl ?_
    refine t_geti (v := .int (σ.1 18)) fl_X2_82 23 44 rfl rfl rfl ?_
    refine t_iald (d := 1) (f := 2) (v := (σ.2.1 2 ((σ.1 18) : Int32).toNatClampNeg)) 24 45 rfl rfl td_1 rfl tf_2 (b1 c1) rfl ?_
    exact t_cSi lk_X2_99 25 48 rfl rfl (by decide) [.int (σ.2.1 2 ((σ.1 18) : Int32).toNatClampNeg)] rfl rfl (Nat.le_of_ble_eq_true rfl) (Nat.le_of_ble_eq_true rfl) (e3 c1) (fun x h => k3 c1 x h)
theorem b_digits_48 {G : Gm} {T : Nat} {w : Wd} {σ : TW} {Q : Option Value → TW → Prop} {x1 : Int32} {x2 : Int32} {x3 : Int32} {s0 : Int32} (k1 : s0 = 0 → ¬ (σ.1 18) = (σ.1 20) → Tn G T w mX2_digits 115 [(0, .ref T), (1, .int x1), (2, .int x2), (3, .int x3)] [] σ Q) {Q2 : TW → Prop} (e2 : s0 = 0 → (σ.1 18) = (σ.1 20) → Tvv G T w mX2_wrongAt (.ref T :: [.int (σ.1 18)]) σ Q2) (k2 : s0 = 0 → (σ.1 18) = (σ.1 20) → ∀ σ2, Q2 σ2 → Tn G T w mX2_digits 115 [(0, .ref T), (1, .int x1), (2, .int x2), (3, .int x3)] [] σ2 Q) (k3 : ¬ s0 = 0 → (9 : Int32) ≤ ((σ.1 18) - (σ.1 20)) → Tn G T w mX2_digits 25 [(0, .ref T), (1, .int x1), (2, .int x2), (3, .int x3)] [] (tsI σ 18 ((σ.1 18) + 1)) Q) (b1 : ¬ s0 = 0 → ¬ (9 : Int32) ≤ ((σ.1 18) - (σ.1 20)) → vp_in (σ.1 18) 1200) (k4 : ¬ s0 = 0 → ¬ (9 : Int32) ≤ ((σ.1 18) - (σ.1 20)) → Tn G T w mX2_digits 25 [(0, .ref T), (1, .int x1), (2, .int x2), (3, .int (((10 * x3) + (σ.2.1 2 ((σ.1 18) : Int32).toNatClampNeg)) - 48))] [] (tsI σ 18 ((σ.1 18) + 1)) Q) : Tn G T w mX2_digits 48 [(0, .ref T), (1, .int x1), (2, .int x2), (3, .int x3)] [.int s0] σ Q := by
  refine p_if_eq 26 51 96 rfl rfl rfl (fun c1 => ?_) (fun c1 => ?_)
  · refine p_aload_n 53 97 0 rfl rfl rfl ?_
    refine t_geti (v := .int (σ.1 18)) fl_X2_82 54 100 rfl rfl rfl ?_
    refine p_aload_n 55 101 0 rfl rfl rfl ?_
    refine t_geti (v := .int (σ.1 20)) fl_X2_96 56 104 rfl rfl rfl ?_
    refine p_icmp_ne 57 107 115 rfl rfl rfl (fun c2 => ?_) (fun c2 => ?_)
    · exact k1 c1 c2
    · refine p_aload_n 58 108 0 rfl rfl rfl ?_
      refine p_aload_n 59 109 0 rfl rfl rfl ?_
      refine t_geti (v := .int (σ.1 18)) fl_X2_82 60 112 rfl rfl rfl ?_
      exact t_cVv lk_X2_92 61 115 rfl rfl (by decide) [.int (σ.1 18)] rfl rfl (Nat.le_of_ble_eq_true rfl) (Nat.le_of_ble_eq_true rfl) (e2 c1 c2) (fun σ1 h => k2 c1 c2 σ1 h)
  · refine p_aload_n 27 52 0 rfl rfl rfl ?_
    refine t_geti (v := .int (σ.1 18)) fl_X2_82 28 55 rfl rfl rfl ?_
    refine p_aload_n 29 56 0 rfl rfl rfl ?_
    refine t_geti (v := .int (σ.1 20)) fl_X2_96 30 59 rfl rfl rfl ?_
    refine p_isub 31 60 rfl rfl ?_
    refine p_bipush 32 62 rfl rfl cb_9 ?_
    refine p_icmp_ge 33 65 83 rfl rfl rfl (fun c2 => ?_) (fun c2 => ?_)
    · refine p_aload_n 46 84 0 rfl rfl rfl ?_
      refine p_dup 47 85 rfl rfl rfl ?_
      refine t_geti (v := .int (σ.1 18)) fl_X2_82 48 88 rfl rfl rfl ?_
      refine p_iconst 49 89 rfl rfl ci_1 ?_
      refine p_iadd 50 90 rfl rfl ?_
      refine t_puti fl_X2_82 51 93 rfl rfl rfl rfl (by decide) (tws_18 _ _ _) ?_
      refine p_goto 52 25 rfl rfl ?_
      exact k3 c1 c2
    · refine p_bipush 34 67 rfl rfl cb_10 ?_
      refine p_iload_n 35 68 3 rfl rfl rfl ?_
      refine p_imul 36 69 rfl rfl ?_
      refine p_aload_n 37 70 0 rfl rfl rfl ?_
      refine t_geti (v := .ref (T + 1)) fl_X2_7 38 73 rfl rfl rfl ?_
      refine p_aload_n 39 74 0 rfl rfl rfl ?_
      refine t_geti (v := .int (σ.1 18)) fl_X2_82 40 77 rfl rfl rfl ?_
      refine t_iald (d := 1) (f := 2) (v := (σ.2.1 2 ((σ.1 18) : Int32).toNatClampNeg)) 41 78 rfl rfl td_1 rfl tf_2 (b1 c1 c2) rfl ?_
      refine p_iadd 42 79 rfl rfl ?_
      refine p_bipush 43 81 rfl rfl cb_48 ?_
      refine p_isub 44 82 rfl rfl ?_
      refine p_istore_n (lv' := [(3, .int (((10 * x3) + (σ.2.1 2 ((σ.1 18) : Int32).toNatClampNeg)) - 48)), (0, .ref T), (1, .int x1), (2, .int x2)]) 45 83 rfl rfl (Nat.le_of_ble_eq_true rfl) rfl ?_
      refine p_aload_n 46 84 1 rfl rfl rfl ?_
      refine p_dup 47 85 rfl rfl rfl ?_
      refine t_geti (v := .int (σ.1 18)) fl_X2_82 48 88 rfl rfl rfl ?_
      refine p_iconst 49 89 rfl rfl ci_1 ?_
      refine p_iadd 50 90 rfl rfl ?_
      refine t_puti fl_X2_82 51 93 rfl rfl rfl rfl (by decide) (tws_18 _ _ _) ?_
      refine p_goto 52 25 rfl rfl ?_
      exact p_sub [1, 2, 3, 0] rfl (k4 c1 c2)
theorem b_digits_115 {G : Gm} {T : Nat} {w : Wd} {σ : TW} {Q : Option Value → TW → Prop} {x1 : Int32} {x2 : Int32} {x3 : Int32} (k1 : ((σ.1 18) - (σ.1 20)) ≤ x1 → Tn G T w mX2_digits 145 [(3, .int x3)] [] σ Q) {Q2 : TW → Prop} (e2 : ¬ ((σ.1 18) - (σ.1 20)) ≤ x1 → ¬ x2 = (-1) → Tvv G T w mX2_wrongAt (.ref T :: [.int x2]) σ Q2) (k2 : ¬ ((σ.1 18) - (σ.1 20)) ≤ x1 → ¬ x2 = (-1) → ∀ σ2, Q2 σ2 → Tn G T w mX2_digits 145 [(3, .int x3)] [] σ2 Q) {Q3 : TW → Prop} (e3 : ¬ ((σ.1 18) - (σ.1 20)) ≤ x1 → x2 = (-1) → Tvv G T w mX2_wrongAt (.ref T :: [.int (σ.1 20)]) σ Q3) (k3 : ¬ ((σ.1 18) - (σ.1 20)) ≤ x1 → x2 = (-1) → ∀ σ3, Q3 σ3 → Tn G T w mX2_digits 145 [(3, .int x3)] [] σ3 Q) : Tn G T w mX2_digits 115 [(0, .ref T), (1, .int x1), (2, .int x2), (3, .int x3)] [] σ Q := by
  refine p_aload_n 62 116 0 rfl rfl rfl ?_
  refine t_geti (v := .int (σ.1 18)) fl_X2_82 63 119 rfl rfl rfl ?_
  refine p_aload_n 64 120 0 rfl rfl rfl ?_
  refine t_geti (v := .int (σ.1 20)) fl_X2_96 65 123 rfl rfl rfl ?_
  refine p_isub 66 124 rfl rfl ?_
  refine p_iload_n 67 125 1 rfl rfl rfl ?_
  refine p_icmp_le 68 128 145 rfl rfl rfl (fun c1 => ?_) (fun c1 => ?_)
  · exact p_sub [3] rfl (k1 c1)
  · refine p_aload_n 69 129 0 rfl rfl rfl ?_
    refine p_iload_n 70 130 2 rfl rfl rfl ?_
    refine p_iconst 71 131 rfl rfl ci_m1 ?_
    refine p_icmp_ne 72 134 141 rfl rfl rfl (fun c2 => ?_) (fun c2 => ?_)
    · refine p_iload_n 76 142 2 rfl rfl rfl ?_
      exact t_cVv lk_X2_92 77 145 rfl rfl (by decide) [.int x2] rfl rfl (Nat.le_of_ble_eq_true rfl) (Nat.le_of_ble_eq_true rfl) (e2 c1 c2) (fun σ1 h => p_sub [3] rfl (k2 c1 c2 σ1 h))
    · refine p_aload_n 73 135 0 rfl rfl rfl ?_
      refine t_geti (v := .int (σ.1 20)) fl_X2_96 74 138 rfl rfl rfl ?_
      refine p_goto 75 142 rfl rfl ?_
      exact t_cVv lk_X2_92 77 145 rfl rfl (by decide) [.int (σ.1 20)] rfl rfl (Nat.le_of_ble_eq_true rfl) (Nat.le_of_ble_eq_true rfl) (e3 c1 c2) (fun σ1 h => p_sub [3] rfl (k3 c1 c2 σ1 h))
theorem b_digits_145 {G : Gm} {T : Nat} {w : Wd} {σ : TW} {Q : Option Value → TW → Prop} {x3 : Int32} (k1 : Q (some (.int x3)) σ) : Tn G T w mX2_digits 145 [(3, .int x3)] [] σ Q := by
  refine p_iload_n 78 146 0 rfl rfl rfl ?_
  exact t_iret 79 rfl rfl rfl (k1 )
theorem b_isDigit_0 {G : Gm} {T : Nat} {w : Wd} {σ : TW} {Q : Option Value → TW → Prop} {x0 : Int32} (k1 : x0 < 48 → Q (some (.int 0)) σ) (k2 : ¬ x0 < 48 → (57 : Int32) < x0 → Q (some (.int 0)) σ) (k3 : ¬ x0 < 48 → ¬ (57 : Int32) < x0 → Q (some (.int 1)) σ) : Tn G T w mX2_isDigit 0 [(0, .int x0)] [] σ Q := by
  refine p_iload_n 0 1 0 rfl rfl rfl ?_
  refine p_bipush 1 3 rfl rfl cb_48 ?_
  refine p_icmp_lt 2 6 16 rfl rfl rfl (fun c1 => ?_) (fun c1 => ?_)
  · refine p_iconst 8 17 rfl rfl ci_0 ?_
    exact t_iret 9 rfl rfl rfl (k1 c1)
  · refine p_iload_n 3 7 0 rfl rfl rfl ?_
    refine p_bipush 4 9 rfl rfl cb_57 ?_
    refine p_icmp_gt 5 12 16 rfl rfl rfl (fun c2 => ?_) (fun c2 => ?_)
    · refine p_iconst 8 17 rfl rfl ci_0 ?_
      exact t_iret 9 rfl rfl rfl (k2 c1 c2)
    · refine p_iconst 6 13 rfl rfl ci_1 ?_
      refine p_goto 7 17 rfl rfl ?_
      exact t_iret 9 rfl rfl rfl (k3 c1 c2)
theorem b_find_0 {G : Gm} {T : Nat} {w : Wd} {σ : TW} {Q : Option Value → TW → Prop} {x1 : Int32} {x2 : Int32} (k1 : Tn G T w mX2_find 5 [(0, .ref T), (1, .int x1), (2, .int x2), (3, .int (40 * x1))] [] σ Q) : Tn G T w mX2_find 0 [(0, .ref T), (1, .int x1), (2, .int x2)] [] σ Q := by
  refine p_bipush 0 2 rfl rfl cb_40 ?_
  refine p_iload_n 1 3 1 rfl rfl rfl ?_
  refine p_imul 2 4 rfl rfl ?_
  refine p_istore_n (lv' := [(3, .int (40 * x1)), (0, .ref T), (1, .int x1), (2, .int x2)]) 3 5 rfl rfl (Nat.le_of_ble_eq_true rfl) rfl ?_
  exact p_sub [1, 2, 3, 0] rfl (k1 )
theorem b_find_5 {G : Gm} {T : Nat} {w : Wd} {σ : TW} {Q : Option Value → TW → Prop} {x1 : Int32} {x2 : Int32} {x3 : Int32} (b1 : vp_in x1 3) (k1 : ((40 * x1) + (σ.2.1 10 (x1 : Int32).toNatClampNeg)) ≤ x3 → Q (some (.int (-1))) σ) (b2 : ¬ ((40 * x1) + (σ.2.1 10 (x1 : Int32).toNatClampNeg)) ≤ x3 → vp_in x3 120) (k2 : ¬ ((40 * x1) + (σ.2.1 10 (x1 : Int32).toNatClampNeg)) ≤ x3 → ¬ (σ.2.1 11 (x3 : Int32).toNatClampNeg) = x2 → Tn G T w mX2_find 5 [(0, .ref T), (1, .int x1), (2, .int x2), (3, .int (x3 + 1))] [] σ Q) (k3 : ¬ ((40 * x1) + (σ.2.1 10 (x1 : Int32).toNatClampNeg)) ≤ x3 → (σ.2.1 11 (x3 : Int32).toNatClampNeg) = x2 → Q (some (.int x3)) σ) : Tn G T w mX2_find 5 [(0, .ref T), (1, .int x1), (2, .int x2), (3, .int x3)] [] σ Q := by
  refine p_iload_n 4 6 3 rfl rfl rfl ?_
  refine p_bipush 5 8 rfl rfl cb_40 ?_
  refine p_iload_n 6 9 1 rfl rfl rfl ?_
  refine p_imul 7 10 rfl rfl ?_
  refine p_aload_n 8 11 0 rfl rfl rfl ?_
  refine t_geti (v := .ref (T + 9)) fl_X2_35 9 14 rfl rfl rfl ?_
  refine p_iload_n 10 15 1 rfl rfl rfl ?_
  refine t_iald (d := 9) (f := 10) (v := (σ.2.1 10 (x1 : Int32).toNatClampNeg)) 11 16 rfl rfl td_9 rfl tf_10 b1 rfl ?_
  refine p_iadd 12 17 rfl rfl ?_
  refine p_icmp_ge 13 20 38 rfl rfl rfl (fun c1 => ?_) (fun c1 => ?_)
  · refine p_iconst 24 39 rfl rfl ci_m1 ?_
    exact t_iret 25 rfl rfl rfl (k1 c1)
  · refine p_aload_n 14 21 0 rfl rfl rfl ?_
    refine t_geti (v := .ref (T + 10)) fl_X2_38 15 24 rfl rfl rfl ?_
    refine p_iload_n 16 25 3 rfl rfl rfl ?_
    refine t_iald (d := 10) (f := 11) (v := (σ.2.1 11 (x3 : Int32).toNatClampNeg)) 17 26 rfl rfl td_10 rfl tf_11 (b2 c1) rfl ?_
    refine p_iload_n 18 27 2 rfl rfl rfl ?_
    refine p_icmp_ne 19 30 32 rfl rfl rfl (fun c2 => ?_) (fun c2 => ?_)
    · refine p_iinc (v := (x3 + 1)) (lv' := [(3, .int (x3 + 1)), (0, .ref T), (1, .int x1), (2, .int x2)]) 22 35 3 rfl rfl rfl (congrArg (fun z => x3 + z) ci_1) (Nat.le_of_ble_eq_true rfl) rfl ?_
      refine p_goto 23 5 rfl rfl ?_
      exact p_sub [1, 2, 3, 0] rfl (k2 c1 c2)
    · refine p_iload_n 20 31 3 rfl rfl rfl ?_
      exact t_iret 21 rfl rfl rfl (k3 c1 c2)
theorem b_argument_0 {G : Gm} {T : Nat} {w : Wd} {σ : TW} {Q : Option Value → TW → Prop} {x1 : Int32} {Q1 : Int32 → TW → Prop} (e1 : Tvi G T w mX2_peek (.ref T :: []) σ Q1) (k1 : ∀ (y1 : Int32) σ1, Q1 y1 σ1 → Tn G T w mX2_argument 4 [(0, .ref T), (1, .int x1)] [.int y1] σ1 Q) : Tn G T w mX2_argument 0 [(0, .ref T), (1, .int x1)] [] σ Q := by
  refine p_aload_n 0 1 0 rfl rfl rfl ?_
  exact t_cVi lk_X2_88 1 4 rfl rfl (by decide) [] rfl rfl (Nat.le_of_ble_eq_true rfl) (Nat.le_of_ble_eq_true rfl) (e1 ) (fun x σ1 h => k1 x σ1 h)
theorem b_argument_4 {G : Gm} {T : Nat} {w : Wd} {σ : TW} {Q : Option Value → TW → Prop} {x1 : Int32} {s0 : Int32} (b1 : vp_in x1 960) {Q1 : Int32 → Prop} (e1 : Svi G mX2_beginsNumber [.int s0] Q1) (k1 : ∀ (y1 : Int32), Q1 y1 → Tn G T w mX2_argument 16 [(0, .ref T), (1, .int x1), (2, .int s0)] [.int y1] (tsA σ 16 (x1 : Int32).toNatClampNeg 0) Q) : Tn G T w mX2_argument 4 [(0, .ref T), (1, .int x1)] [.int s0] σ Q := by
  refine p_istore_n (lv' := [(2, .int s0), (0, .ref T), (1, .int x1)]) 2 5 rfl rfl (Nat.le_of_ble_eq_true rfl) rfl ?_
  refine p_aload_n 3 6 1 rfl rfl rfl ?_
  refine t_geti (v := .ref (T + 15)) fl_X2_53 4 9 rfl rfl rfl ?_
  refine p_iload_n 5 10 2 rfl rfl rfl ?_
  refine p_iconst 6 11 rfl rfl ci_0 ?_
  refine t_iast (d := 15) (f := 16) 7 12 rfl rfl td_15 rfl tf_16 b1 ?_
  refine p_iload_n 8 13 0 rfl rfl rfl ?_
  exact t_cSi lk_X2_128 9 16 rfl rfl (by decide) [.int s0] rfl rfl (Nat.le_of_ble_eq_true rfl) (Nat.le_of_ble_eq_true rfl) (e1 ) (fun x h => p_sub [1, 2, 0] rfl (k1 x h))
theorem b_argument_16 {G : Gm} {T : Nat} {w : Wd} {σ : TW} {Q : Option Value → TW → Prop} {x1 : Int32} {x2 : Int32} {s0 : Int32} {Q1 : TW → Prop} (e1 : s0 = 0 → ¬ x2 = 39 → ¬ x2 = 35 → ¬ x2 = 36 → ¬ x2 = 46 → ¬ x2 = 40 → Tvv G T w mX2_wrongAt (.ref T :: [.int (σ.1 18)]) σ Q1) (k1 : s0 = 0 → ¬ x2 = 39 → ¬ x2 = 35 → ¬ x2 = 36 → ¬ x2 = 46 → ¬ x2 = 40 → ∀ σ1, Q1 σ1 → Tn G T w mX2_argument 178 [] [] σ1 Q) {Q2 : TW → Prop} (e2 : s0 = 0 → ¬ x2 = 39 → ¬ x2 = 35 → ¬ x2 = 36 → ¬ x2 = 46 → x2 = 40 → Tvv G T w mX2_list (.ref T :: [.int x1]) σ Q2) (k2 : s0 = 0 → ¬ x2 = 39 → ¬ x2 = 35 → ¬ x2 = 36 → ¬ x2 = 46 → x2 = 40 → ∀ σ2, Q2 σ2 → Tn G T w mX2_argument 167 [] [] σ2 Q) (b1 : s0 = 0 → ¬ x2 = 39 → ¬ x2 = 35 → ¬ x2 = 36 → x2 = 46 → vp_in x1 960) {Q3 : Int32 → TW → Prop} (e3 : s0 = 0 → ¬ x2 = 39 → ¬ x2 = 35 → ¬ x2 = 36 → x2 = 46 → Tvi G T w mX2_name (.ref T :: [.ref (T + 16), .int (20 * x1)]) (tsA (tsI σ 18 ((σ.1 18) + 1)) 15 (x1 : Int32).toNatClampNeg 5) Q3) (k3 : s0 = 0 → ¬ x2 = 39 → ¬ x2 = 35 → ¬ x2 = 36 → x2 = 46 → ∀ (y3 : Int32) σ3, Q3 y3 σ3 → Tn G T w mX2_argument 146 [(0, .ref T)] [.int y3, .int x1, .ref (T + 15)] σ3 Q) (b2 : s0 = 0 → ¬ x2 = 39 → ¬ x2 = 35 → x2 = 36 → vp_in x1 960) (k4 : s0 = 0 → ¬ x2 = 39 → ¬ x2 = 35 → x2 = 36 → Tn G T w mX2_argument 178 [] [] (tsI (tsA σ 15 (x1 : Int32).toNatClampNeg 6) 18 ((σ.1 18) + 1)) Q) (b3 : s0 = 0 → ¬ x2 = 39 → x2 = 35 → vp_in x1 960) {Q5 : Int32 → TW → Prop} (e5 : s0 = 0 → ¬ x2 = 39 → x2 = 35 → Tvi G T w mX2_reference (.ref T :: []) (tsA σ 15 (x1 : Int32).toNatClampNeg 2) Q5) (k5 : s0 = 0 → ¬ x2 = 39 → x2 = 35 → ∀ (y5 : Int32) σ5, Q5 y5 σ5 → Tn G T w mX2_argument 75 [] [.int y5, .int x1, .ref (T + 15)] σ5 Q) {Q6 : TW → Prop} (e6 : s0 = 0 → x2 = 39 → Tvv G T w mX2_writing (.ref T :: [.int x1]) σ Q6) (k6 : s0 = 0 → x2 = 39 → ∀ σ6, Q6 σ6 → Tn G T w mX2_argument 50 [] [] σ6 Q) (b4 : ¬ s0 = 0 → vp_in x1 960) {Q7 : Int32 → TW → Prop} (e7 : ¬ s0 = 0 → Tvi G T w mX2_number (.ref T :: []) (tsA σ 15 (x1 : Int32).toNatClampNeg 0) Q7) (k7 : ¬ s0 = 0 → ∀ (y7 : Int32) σ7, Q7 y7 σ7 → Tn G T w mX2_argument 35 [] [.int y7, .int x1, .ref (T + 15)] σ7 Q) : Tn G T w mX2_argument 16 [(0, .ref T), (1, .int x1), (2, .int x2)] [.int s0] σ Q := by
  refine p_if_eq 10 19 39 rfl rfl rfl (fun c1 => ?_) (fun c1 => ?_)
  · refine p_iload_n 23 40 2 rfl rfl rfl ?_
    refine p_bipush 24 42 rfl rfl cb_39 ?_
    refine p_icmp_ne 25 45 53 rfl rfl rfl (fun c2 => ?_) (fun c2 => ?_)
    · refine p_iload_n 30 54 2 rfl rfl rfl ?_
      refine p_bipush 31 56 rfl rfl cb_35 ?_
      refine p_icmp_ne 32 59 79 rfl rfl rfl (fun c3 => ?_) (fun c3 => ?_)
      · refine p_iload_n 45 80 2 rfl rfl rfl ?_
        refine p_bipush 46 82 rfl rfl cb_36 ?_
        refine p_icmp_ne 47 85 106 rfl rfl rfl (fun c4 => ?_) (fun c4 => ?_)
        · refine p_iload_n 60 107 2 rfl rfl rfl ?_
          refine p_bipush 61 109 rfl rfl cb_46 ?_
          refine p_icmp_ne 62 112 156 rfl rfl rfl (fun c5 => ?_) (fun c5 => ?_)
          · refine p_iload_n 89 157 2 rfl rfl rfl ?_
            refine p_bipush 90 159 rfl rfl cb_40 ?_
            refine p_icmp_ne 91 162 170 rfl rfl rfl (fun c6 => ?_) (fun c6 => ?_)
            · refine p_aload_n 96 171 0 rfl rfl rfl ?_
              refine p_aload_n 97 172 0 rfl rfl rfl ?_
              refine t_geti (v := .int (σ.1 18)) fl_X2_82 98 175 rfl rfl rfl ?_
              exact t_cVv lk_X2_92 99 178 rfl rfl (by decide) [.int (σ.1 18)] rfl rfl (Nat.le_of_ble_eq_true rfl) (Nat.le_of_ble_eq_true rfl) (e1 c1 c2 c3 c4 c5 c6) (fun σ1 h => p_sub [] rfl (k1 c1 c2 c3 c4 c5 c6 σ1 h))
            · refine p_aload_n 92 163 0 rfl rfl rfl ?_
              refine p_iload_n 93 164 1 rfl rfl rfl ?_
              exact t_cVv lk_X2_140 94 167 rfl rfl (by decide) [.int x1] rfl rfl (Nat.le_of_ble_eq_true rfl) (Nat.le_of_ble_eq_true rfl) (e2 c1 c2 c3 c4 c5 c6) (fun σ1 h => p_sub [] rfl (k2 c1 c2 c3 c4 c5 c6 σ1 h))
          · refine p_aload_n 63 113 0 rfl rfl rfl ?_
            refine p_dup 64 114 rfl rfl rfl ?_
            refine t_geti (v := .int (σ.1 18)) fl_X2_82 65 117 rfl rfl rfl ?_
            refine p_iconst 66 118 rfl rfl ci_1 ?_
            refine p_iadd 67 119 rfl rfl ?_
            refine t_puti fl_X2_82 68 122 rfl rfl rfl rfl (by decide) (tws_18 _ _ _) ?_
            refine p_aload_n 69 123 0 rfl rfl rfl ?_
            refine t_geti (v := .ref (T + 14)) fl_X2_50 70 126 rfl rfl rfl ?_
            refine p_iload_n 71 127 1 rfl rfl rfl ?_
            refine p_iconst 72 128 rfl rfl ci_5 ?_
            refine t_iast (d := 14) (f := 15) 73 129 rfl rfl td_14 rfl tf_15 (b1 c1 c2 c3 c4 c5) ?_
            refine p_aload_n 74 130 0 rfl rfl rfl ?_
            refine t_geti (v := .ref (T + 15)) fl_X2_53 75 133 rfl rfl rfl ?_
            refine p_iload_n 76 134 1 rfl rfl rfl ?_
            refine p_aload_n 77 135 0 rfl rfl rfl ?_
            refine p_aload_n 78 136 0 rfl rfl rfl ?_
            refine t_geti (v := .ref (T + 16)) fl_X2_56 79 139 rfl rfl rfl ?_
            refine p_bipush 80 141 rfl rfl cb_20 ?_
            refine p_iload_n 81 142 1 rfl rfl rfl ?_
            refine p_imul 82 143 rfl rfl ?_
            exact t_cVi lk_X2_113 83 146 rfl rfl (by decide) [.ref (T + 16), .int (20 * x1)] rfl rfl (Nat.le_of_ble_eq_true rfl) (Nat.le_of_ble_eq_true rfl) (e3 c1 c2 c3 c4 c5) (fun x σ1 h => p_sub [0] rfl (k3 c1 c2 c3 c4 c5 x σ1 h))
        · refine p_aload_n 48 86 0 rfl rfl rfl ?_
          refine t_geti (v := .ref (T + 14)) fl_X2_50 49 89 rfl rfl rfl ?_
          refine p_iload_n 50 90 1 rfl rfl rfl ?_
          refine p_bipush 51 92 rfl rfl cb_6 ?_
          refine t_iast (d := 14) (f := 15) 52 93 rfl rfl td_14 rfl tf_15 (b2 c1 c2 c3 c4) ?_
          refine p_aload_n 53 94 0 rfl rfl rfl ?_
          refine p_dup 54 95 rfl rfl rfl ?_
          refine t_geti (v := .int (σ.1 18)) fl_X2_82 55 98 rfl rfl rfl ?_
          refine p_iconst 56 99 rfl rfl ci_1 ?_
          refine p_iadd 57 100 rfl rfl ?_
          refine t_puti fl_X2_82 58 103 rfl rfl rfl rfl (by decide) (tws_18 _ _ _) ?_
          refine p_goto 59 178 rfl rfl ?_
          exact p_sub [] rfl (k4 c1 c2 c3 c4)
      · refine p_aload_n 33 60 0 rfl rfl rfl ?_
        refine t_geti (v := .ref (T + 14)) fl_X2_50 34 63 rfl rfl rfl ?_
        refine p_iload_n 35 64 1 rfl rfl rfl ?_
        refine p_iconst 36 65 rfl rfl ci_2 ?_
        refine t_iast (d := 14) (f := 15) 37 66 rfl rfl td_14 rfl tf_15 (b3 c1 c2 c3) ?_
        refine p_aload_n 38 67 0 rfl rfl rfl ?_
        refine t_geti (v := .ref (T + 15)) fl_X2_53 39 70 rfl rfl rfl ?_
        refine p_iload_n 40 71 1 rfl rfl rfl ?_
        refine p_aload_n 41 72 0 rfl rfl rfl ?_
        exact t_cVi lk_X2_131 42 75 rfl rfl (by decide) [] rfl rfl (Nat.le_of_ble_eq_true rfl) (Nat.le_of_ble_eq_true rfl) (e5 c1 c2 c3) (fun x σ1 h => p_sub [] rfl (k5 c1 c2 c3 x σ1 h))
    · refine p_aload_n 26 46 0 rfl rfl rfl ?_
      refine p_iload_n 27 47 1 rfl rfl rfl ?_
      exact t_cVv lk_X2_137 28 50 rfl rfl (by decide) [.int x1] rfl rfl (Nat.le_of_ble_eq_true rfl) (Nat.le_of_ble_eq_true rfl) (e6 c1 c2) (fun σ1 h => p_sub [] rfl (k6 c1 c2 σ1 h))
  · refine p_aload_n 11 20 0 rfl rfl rfl ?_
    refine t_geti (v := .ref (T + 14)) fl_X2_50 12 23 rfl rfl rfl ?_
    refine p_iload_n 13 24 1 rfl rfl rfl ?_
    refine p_iconst 14 25 rfl rfl ci_0 ?_
    refine t_iast (d := 14) (f := 15) 15 26 rfl rfl td_14 rfl tf_15 (b4 c1) ?_
    refine p_aload_n 16 27 0 rfl rfl rfl ?_
    refine t_geti (v := .ref (T + 15)) fl_X2_53 17 30 rfl rfl rfl ?_
    refine p_iload_n 18 31 1 rfl rfl rfl ?_
    refine p_aload_n 19 32 0 rfl rfl rfl ?_
    exact t_cVi lk_X2_134 20 35 rfl rfl (by decide) [] rfl rfl (Nat.le_of_ble_eq_true rfl) (Nat.le_of_ble_eq_true rfl) (e7 c1) (fun x σ1 h => p_sub [] rfl (k7 c1 x σ1 h))
theorem b_argument_35 {G : Gm} {T : Nat} {w : Wd} {σ : TW} {Q : Option Value → TW → Prop} {s0 : Int32} {s1 : Int32} (b1 : vp_in s1 960) (k1 : Tn G T w mX2_argument 178 [] [] (tsA σ 16 (s1 : Int32).toNatClampNeg s0) Q) : Tn G T w mX2_argument 35 [] [.int s0, .int s1, .ref (T + 15)] σ Q := by
  refine t_iast (d := 15) (f := 16) 21 36 rfl rfl td_15 rfl tf_16 b1 ?_
  refine p_goto 22 178 rfl rfl ?_
  exact k1 
theorem b_argument_50 {G : Gm} {T : Nat} {w : Wd} {σ : TW} {Q : Option Value → TW → Prop} (k1 : Tn G T w mX2_argument 178 [] [] σ Q) : Tn G T w mX2_argument 50 [] [] σ Q := by
  refine p_goto 29 178 rfl rfl ?_
  exact k1 
theorem b_argument_75 {G : Gm} {T : Nat} {w : Wd} {σ : TW} {Q : Option Value → TW → Prop} {s0 : Int32} {s1 : Int32} (b1 : vp_in s1 960) (k1 : Tn G T w mX2_argument 178 [] [] (tsA σ 16 (s1 : Int32).toNatClampNeg s0) Q) : Tn G T w mX2_argument 75 [] [.int s0, .int s1, .ref (T + 15)] σ Q := by
  refine t_iast (d := 15) (f := 16) 43 76 rfl rfl td_15 rfl tf_16 b1 ?_
  refine p_goto 44 178 rfl rfl ?_
  exact k1 
theorem b_argument_146 {G : Gm} {T : Nat} {w : Wd} {σ : TW} {Q : Option Value → TW → Prop} {s0 : Int32} {s1 : Int32} (b1 : vp_in s1 960) {Q1 : TW → Prop} (e1 : Tvv G T w mX2_sign (.ref T :: [.int 46]) (tsA σ 16 (s1 : Int32).toNatClampNeg s0) Q1) (k1 : ∀ σ1, Q1 σ1 → Tn G T w mX2_argument 153 [] [] σ1 Q) : Tn G T w mX2_argument 146 [(0, .ref T)] [.int s0, .int s1, .ref (T + 15)] σ Q := by
  refine t_iast (d := 15) (f := 16) 84 147 rfl rfl td_15 rfl tf_16 b1 ?_
  refine p_aload_n 85 148 0 rfl rfl rfl ?_
  refine p_bipush 86 150 rfl rfl cb_46 ?_
  exact t_cVv lk_X2_110 87 153 rfl rfl (by decide) [.int 46] rfl rfl (Nat.le_of_ble_eq_true rfl) (Nat.le_of_ble_eq_true rfl) (e1 ) (fun σ1 h => p_sub [] rfl (k1 σ1 h))
theorem b_argument_153 {G : Gm} {T : Nat} {w : Wd} {σ : TW} {Q : Option Value → TW → Prop} (k1 : Tn G T w mX2_argument 178 [] [] σ Q) : Tn G T w mX2_argument 153 [] [] σ Q := by
  refine p_goto 88 178 rfl rfl ?_
  exact k1 
theorem b_argument_167 {G : Gm} {T : Nat} {w : Wd} {σ : TW} {Q : Option Value → TW → Prop} (k1 : Tn G T w mX2_argument 178 [] [] σ Q) : Tn G T w mX2_argument 167 [] [] σ Q := by
  refine p_goto 95 178 rfl rfl ?_
  exact k1 
theorem b_argument_178 {G : Gm} {T : Nat} {w : Wd} {σ : TW} {Q : Option Value → TW → Prop} (k1 : Q none σ) : Tn G T w mX2_argument 178 [] [] σ Q := by
  exact t_vret 100 rfl rfl (k1 )
theorem b_beginsNumber_0 {G : Gm} {T : Nat} {w : Wd} {σ : TW} {Q : Option Value → TW → Prop} {x0 : Int32} (k1 : x0 = 45 → Q (some (.int 1)) σ) {Q2 : Int32 → Prop} (e2 : ¬ x0 = 45 → Svi G mX2_isDigit [.int x0] Q2) (k2 : ¬ x0 = 45 → ∀ (y2 : Int32), Q2 y2 → Tn G T w mX2_beginsNumber 10 [] [.int y2] σ Q) : Tn G T w mX2_beginsNumber 0 [(0, .int x0)] [] σ Q := by
  refine p_iload_n 0 1 0 rfl rfl rfl ?_
  refine p_bipush 1 3 rfl rfl cb_45 ?_
  refine p_icmp_eq 2 6 13 rfl rfl rfl (fun c1 => ?_) (fun c1 => ?_)
  · refine p_iconst 6 14 rfl rfl ci_1 ?_
    refine p_goto 7 18 rfl rfl ?_
    exact t_iret 9 rfl rfl rfl (k1 c1)
  · refine p_iload_n 3 7 0 rfl rfl rfl ?_
    exact t_cSi lk_X2_99 4 10 rfl rfl (by decide) [.int x0] rfl rfl (Nat.le_of_ble_eq_true rfl) (Nat.le_of_ble_eq_true rfl) (e2 c1) (fun x h => p_sub [] rfl (k2 c1 x h))
theorem b_beginsNumber_10 {G : Gm} {T : Nat} {w : Wd} {σ : TW} {Q : Option Value → TW → Prop} {s0 : Int32} (k1 : s0 = 0 → Q (some (.int 0)) σ) (k2 : ¬ s0 = 0 → Q (some (.int 1)) σ) : Tn G T w mX2_beginsNumber 10 [] [.int s0] σ Q := by
  refine p_if_eq 5 13 17 rfl rfl rfl (fun c1 => ?_) (fun c1 => ?_)
  · refine p_iconst 8 18 rfl rfl ci_0 ?_
    exact t_iret 9 rfl rfl rfl (k1 c1)
  · refine p_iconst 6 14 rfl rfl ci_1 ?_
    refine p_goto 7 18 rfl rfl ?_
    exact t_iret 9 rfl rfl rfl (k2 c1)
theorem b_number_0 {G : Gm} {T : Nat} {w : Wd} {σ : TW} {Q : Option Value → TW → Prop} {Q1 : Int32 → TW → Prop} (e1 : Tvi G T w mX2_peek (.ref T :: []) σ Q1) (k1 : ∀ (y1 : Int32) σ1, Q1 y1 σ1 → Tn G T w mX2_number 4 [(0, .ref T)] [.int y1] σ1 Q) : Tn G T w mX2_number 0 [(0, .ref T)] [] σ Q := by
  refine p_aload_n 0 1 0 rfl rfl rfl ?_
  exact t_cVi lk_X2_88 1 4 rfl rfl (by decide) [] rfl rfl (Nat.le_of_ble_eq_true rfl) (Nat.le_of_ble_eq_true rfl) (e1 ) (fun x σ1 h => k1 x σ1 h)
theorem b_number_4 {G : Gm} {T : Nat} {w : Wd} {σ : TW} {Q : Option Value → TW → Prop} {s0 : Int32} {Q1 : Int32 → TW → Prop} (e1 : ¬ s0 = 45 → Tvi G T w mX2_digits (.ref T :: [.int 9, .int (σ.1 18)]) σ Q1) (k1 : ¬ s0 = 45 → ∀ (y1 : Int32) σ1, Q1 y1 σ1 → Tn G T w mX2_number 41 [(1, .int 0)] [.int y1] σ1 Q) {Q2 : Int32 → TW → Prop} (e2 : s0 = 45 → Tvi G T w mX2_digits (.ref T :: [.int 9, .int (σ.1 18)]) (tsI σ 18 ((σ.1 18) + 1)) Q2) (k2 : s0 = 45 → ∀ (y2 : Int32) σ2, Q2 y2 σ2 → Tn G T w mX2_number 41 [(1, .int 1)] [.int y2] σ2 Q) : Tn G T w mX2_number 4 [(0, .ref T)] [.int s0] σ Q := by
  refine p_bipush 2 6 rfl rfl cb_45 ?_
  refine p_icmp_ne 3 9 13 rfl rfl rfl (fun c1 => ?_) (fun c1 => ?_)
  · refine p_iconst 6 14 rfl rfl ci_0 ?_
    refine p_istore_n (lv' := [(1, .int 0), (0, .ref T)]) 7 15 rfl rfl (Nat.le_of_ble_eq_true rfl) rfl ?_
    refine p_aload_n 8 16 1 rfl rfl rfl ?_
    refine t_geti (v := .int (σ.1 18)) fl_X2_82 9 19 rfl rfl rfl ?_
    refine p_istore_n (lv' := [(2, .int (σ.1 18)), (1, .int 0), (0, .ref T)]) 10 20 rfl rfl (Nat.le_of_ble_eq_true rfl) rfl ?_
    refine p_iload_n 11 21 1 rfl rfl rfl ?_
    refine p_if_eq 12 24 34 rfl rfl rfl (fun _ => ?_) (fun c => absurd c (by decide))
    refine p_aload_n 19 35 2 rfl rfl rfl ?_
    refine p_bipush 20 37 rfl rfl cb_9 ?_
    refine p_iload_n 21 38 0 rfl rfl rfl ?_
    exact t_cVi lk_X2_106 22 41 rfl rfl (by decide) [.int 9, .int (σ.1 18)] rfl rfl (Nat.le_of_ble_eq_true rfl) (Nat.le_of_ble_eq_true rfl) (e1 c1) (fun x σ1 h => p_sub [1] rfl (k1 c1 x σ1 h))
  · refine p_iconst 4 10 rfl rfl ci_1 ?_
    refine p_goto 5 14 rfl rfl ?_
    refine p_istore_n (lv' := [(1, .int 1), (0, .ref T)]) 7 15 rfl rfl (Nat.le_of_ble_eq_true rfl) rfl ?_
    refine p_aload_n 8 16 1 rfl rfl rfl ?_
    refine t_geti (v := .int (σ.1 18)) fl_X2_82 9 19 rfl rfl rfl ?_
    refine p_istore_n (lv' := [(2, .int (σ.1 18)), (1, .int 1), (0, .ref T)]) 10 20 rfl rfl (Nat.le_of_ble_eq_true rfl) rfl ?_
    refine p_iload_n 11 21 1 rfl rfl rfl ?_
    refine p_if_eq 12 24 34 rfl rfl rfl (fun c => absurd c (by decide)) (fun _ => ?_)
    refine p_aload_n 13 25 2 rfl rfl rfl ?_
    refine p_dup 14 26 rfl rfl rfl ?_
    refine t_geti (v := .int (σ.1 18)) fl_X2_82 15 29 rfl rfl rfl ?_
    refine p_iconst 16 30 rfl rfl ci_1 ?_
    refine p_iadd 17 31 rfl rfl ?_
    refine t_puti fl_X2_82 18 34 rfl rfl rfl rfl (by decide) (tws_18 _ _ _) ?_
    refine p_aload_n 19 35 2 rfl rfl rfl ?_
    refine p_bipush 20 37 rfl rfl cb_9 ?_
    refine p_iload_n 21 38 0 rfl rfl rfl ?_
    exact t_cVi lk_X2_106 22 41 rfl rfl (by decide) [.int 9, .int (σ.1 18)] rfl rfl (Nat.le_of_ble_eq_true rfl) (Nat.le_of_ble_eq_true rfl) (e2 c1) (fun x σ1 h => p_sub [1] rfl (k2 c1 x σ1 h))
theorem b_number_41 {G : Gm} {T : Nat} {w : Wd} {σ : TW} {Q : Option Value → TW → Prop} {x1 : Int32} {s0 : Int32} (k1 : x1 = 0 → Q (some (.int s0)) σ) (k2 : ¬ x1 = 0 → Q (some (.int (-s0))) σ) : Tn G T w mX2_number 41 [(1, .int x1)] [.int s0] σ Q := by
  refine p_istore_n (lv' := [(3, .int s0), (1, .int x1)]) 23 42 rfl rfl (Nat.le_of_ble_eq_true rfl) rfl ?_
  refine p_iload_n 24 43 1 rfl rfl rfl ?_
  refine p_if_eq 25 46 51 rfl rfl rfl (fun c1 => ?_) (fun c1 => ?_)
  · refine p_iload_n 29 52 0 rfl rfl rfl ?_
    exact t_iret 30 rfl rfl rfl (k1 c1)
  · refine p_iload_n 26 47 0 rfl rfl rfl ?_
    refine p_ineg 27 48 rfl rfl ?_
    refine p_goto 28 52 rfl rfl ?_
    exact t_iret 30 rfl rfl rfl (k2 c1)
theorem b_writing_0 {G : Gm} {T : Nat} {w : Wd} {σ : TW} {Q : Option Value → TW → Prop} {x1 : Int32} (k1 : Tn G T w mX2_writing 18 [(0, .ref T), (1, .int x1), (2, .int (σ.1 18)), (3, .int 0), (4, .int ((σ.1 18) + 1)), (5, .int 1)] [] σ Q) : Tn G T w mX2_writing 0 [(0, .ref T), (1, .int x1)] [] σ Q := by
  refine p_aload_n 0 1 0 rfl rfl rfl ?_
  refine t_geti (v := .int (σ.1 18)) fl_X2_82 1 4 rfl rfl rfl ?_
  refine p_istore_n (lv' := [(2, .int (σ.1 18)), (0, .ref T), (1, .int x1)]) 2 5 rfl rfl (Nat.le_of_ble_eq_true rfl) rfl ?_
  refine p_iconst 3 6 rfl rfl ci_0 ?_
  refine p_istore_n (lv' := [(3, .int 0), (2, .int (σ.1 18)), (0, .ref T), (1, .int x1)]) 4 7 rfl rfl (Nat.le_of_ble_eq_true rfl) rfl ?_
  refine p_aload_n 5 8 2 rfl rfl rfl ?_
  refine t_geti (v := .int (σ.1 18)) fl_X2_82 6 11 rfl rfl rfl ?_
  refine p_iconst 7 12 rfl rfl ci_1 ?_
  refine p_iadd 8 13 rfl rfl ?_
  refine p_istore (lv' := [(4, .int ((σ.1 18) + 1)), (3, .int 0), (2, .int (σ.1 18)), (0, .ref T), (1, .int x1)]) 9 15 rfl rfl (Nat.le_of_ble_eq_true rfl) rfl ?_
  refine p_iconst 10 16 rfl rfl ci_1 ?_
  refine p_istore (lv' := [(5, .int 1), (4, .int ((σ.1 18) + 1)), (3, .int 0), (2, .int (σ.1 18)), (0, .ref T), (1, .int x1)]) 11 18 rfl rfl (Nat.le_of_ble_eq_true rfl) rfl ?_
  exact p_sub [4, 5, 3, 2, 1, 0] rfl (k1 )
theorem b_writing_18 {G : Gm} {T : Nat} {w : Wd} {σ : TW} {Q : Option Value → TW → Prop} {x1 : Int32} {x2 : Int32} {x3 : Int32} {x4 : Int32} {x5 : Int32} (b1 : x5 = 0 → vp_in x1 960) (k1 : x5 = 0 → Q none (tsA (tsA (tsI σ 18 x4) 15 (x1 : Int32).toNatClampNeg 1) 16 (x1 : Int32).toNatClampNeg x3)) (b2 : ¬ x5 = 0 → ¬ (σ.1 19) = (-1) → vp_in x1 960) (k2 : ¬ x5 = 0 → ¬ (σ.1 19) = (-1) → Q none (tsA (tsA (tsI σ 18 x4) 15 (x1 : Int32).toNatClampNeg 1) 16 (x1 : Int32).toNatClampNeg x3)) (k3 : ¬ x5 = 0 → (σ.1 19) = (-1) → (σ.1 1) ≤ x4 → Tn G T w mX2_writing 93 [(0, .ref T), (1, .int x1), (2, .int x2), (3, .int x3), (4, .int x4), (5, .int x5), (6, .int 0)] [] σ Q) (b3 : ¬ x5 = 0 → (σ.1 19) = (-1) → ¬ (σ.1 1) ≤ x4 → vp_in x4 1200) (k4 : ¬ x5 = 0 → (σ.1 19) = (-1) → ¬ (σ.1 1) ≤ x4 → ¬ (σ.2.1 2 (x4 : Int32).toNatClampNeg) = 39 → Tn G T w mX2_writing 93 [(0, .ref T), (1, .int x1), (2, .int x2), (3, .int x3), (4, .int x4), (5, .int x5), (6, .int 0)] [] σ Q) (k5 : ¬ x5 = 0 → (σ.1 19) = (-1) → ¬ (σ.1 1) ≤ x4 → (σ.2.1 2 (x4 : Int32).toNatClampNeg) = 39 → (σ.1 1) ≤ (x4 + 1) → Tn G T w mX2_writing 93 [(0, .ref T), (1, .int x1), (2, .int x2), (3, .int x3), (4, .int x4), (5, .int x5), (6, .int 1)] [] σ Q) (b4 : ¬ x5 = 0 → (σ.1 19) = (-1) → ¬ (σ.1 1) ≤ x4 → (σ.2.1 2 (x4 : Int32).toNatClampNeg) = 39 → ¬ (σ.1 1) ≤ (x4 + 1) → vp_in (x4 + 1) 1200) (k6 : ¬ x5 = 0 → (σ.1 19) = (-1) → ¬ (σ.1 1) ≤ x4 → (σ.2.1 2 (x4 : Int32).toNatClampNeg) = 39 → ¬ (σ.1 1) ≤ (x4 + 1) → ¬ (σ.2.1 2 ((x4 + 1) : Int32).toNatClampNeg) = 39 → Tn G T w mX2_writing 93 [(0, .ref T), (1, .int x1), (2, .int x2), (3, .int x3), (4, .int x4), (5, .int x5), (6, .int 1)] [] σ Q) {Q7 : TW → Prop} (e7 : ¬ x5 = 0 → (σ.1 19) = (-1) → ¬ (σ.1 1) ≤ x4 → (σ.2.1 2 (x4 : Int32).toNatClampNeg) = 39 → ¬ (σ.1 1) ≤ (x4 + 1) → (σ.2.1 2 ((x4 + 1) : Int32).toNatClampNeg) = 39 → (σ.1 1) ≤ x4 → Tvv G T w mX2_wrongAt (.ref T :: [.int x2]) σ Q7) (k7 : ¬ x5 = 0 → (σ.1 19) = (-1) → ¬ (σ.1 1) ≤ x4 → (σ.2.1 2 (x4 : Int32).toNatClampNeg) = 39 → ¬ (σ.1 1) ≤ (x4 + 1) → (σ.2.1 2 ((x4 + 1) : Int32).toNatClampNeg) = 39 → (σ.1 1) ≤ x4 → ∀ σ7, Q7 σ7 → Tn G T w mX2_writing 126 [(0, .ref T), (1, .int x1), (2, .int x2), (3, .int x3), (4, .int x4), (5, .int x5)] [] σ7 Q) (b5 : ¬ x5 = 0 → (σ.1 19) = (-1) → ¬ (σ.1 1) ≤ x4 → (σ.2.1 2 (x4 : Int32).toNatClampNeg) = 39 → ¬ (σ.1 1) ≤ (x4 + 1) → (σ.2.1 2 ((x4 + 1) : Int32).toNatClampNeg) = 39 → ¬ (σ.1 1) ≤ x4 → ¬ x3 = 20 → vp_in ((20 * x1) + x3) 19200) (k8 : ¬ x5 = 0 → (σ.1 19) = (-1) → ¬ (σ.1 1) ≤ x4 → (σ.2.1 2 (x4 : Int32).toNatClampNeg) = 39 → ¬ (σ.1 1) ≤ (x4 + 1) → (σ.2.1 2 ((x4 + 1) : Int32).toNatClampNeg) = 39 → ¬ (σ.1 1) ≤ x4 → ¬ x3 = 20 → Tn G T w mX2_writing 18 [(0, .ref T), (1, .int x1), (2, .int x2), (3, .int (x3 + 1)), (4, .int (x4 + 2)), (5, .int x5)] [] (tsA σ 17 (((20 * x1) + x3) : Int32).toNatClampNeg (σ.2.1 2 (x4 : Int32).toNatClampNeg)) Q) {Q9 : TW → Prop} (e9 : ¬ x5 = 0 → (σ.1 19) = (-1) → ¬ (σ.1 1) ≤ x4 → (σ.2.1 2 (x4 : Int32).toNatClampNeg) = 39 → ¬ (σ.1 1) ≤ (x4 + 1) → (σ.2.1 2 ((x4 + 1) : Int32).toNatClampNeg) = 39 → ¬ (σ.1 1) ≤ x4 → x3 = 20 → Tvv G T w mX2_wrongAt (.ref T :: [.int x2]) σ Q9) (k9 : ¬ x5 = 0 → (σ.1 19) = (-1) → ¬ (σ.1 1) ≤ x4 → (σ.2.1 2 (x4 : Int32).toNatClampNeg) = 39 → ¬ (σ.1 1) ≤ (x4 + 1) → (σ.2.1 2 ((x4 + 1) : Int32).toNatClampNeg) = 39 → ¬ (σ.1 1) ≤ x4 → x3 = 20 → ∀ σ9, Q9 σ9 → Tn G T w mX2_writing 126 [(0, .ref T), (1, .int x1), (2, .int x2), (3, .int x3), (4, .int x4), (5, .int x5)] [] σ9 Q) : Tn G T w mX2_writing 18 [(0, .ref T), (1, .int x1), (2, .int x2), (3, .int x3), (4, .int x4), (5, .int x5)] [] σ Q := by
  refine p_iload 12 20 5 rfl rfl rfl ?_
  refine p_if_eq 13 23 187 rfl rfl rfl (fun c1 => ?_) (fun c1 => ?_)
  · refine p_aload_n 97 188 0 rfl rfl rfl ?_
    refine p_iload 98 190 4 rfl rfl rfl ?_
    refine t_puti fl_X2_82 99 193 rfl rfl rfl rfl (by decide) (tws_18 _ _ _) ?_
    refine p_aload_n 100 194 0 rfl rfl rfl ?_
    refine t_geti (v := .ref (T + 14)) fl_X2_50 101 197 rfl rfl rfl ?_
    refine p_iload_n 102 198 1 rfl rfl rfl ?_
    refine p_iconst 103 199 rfl rfl ci_1 ?_
    refine t_iast (d := 14) (f := 15) 104 200 rfl rfl td_14 rfl tf_15 (b1 c1) ?_
    refine p_aload_n 105 201 0 rfl rfl rfl ?_
    refine t_geti (v := .ref (T + 15)) fl_X2_53 106 204 rfl rfl rfl ?_
    refine p_iload_n 107 205 1 rfl rfl rfl ?_
    refine p_iload_n 108 206 3 rfl rfl rfl ?_
    refine t_iast (d := 15) (f := 16) 109 207 rfl rfl td_15 rfl tf_16 (b1 c1) ?_
    exact t_vret 110 rfl rfl (k1 c1)
  · refine p_aload_n 14 24 0 rfl rfl rfl ?_
    refine t_geti (v := .int (σ.1 19)) fl_X2_85 15 27 rfl rfl rfl ?_
    refine p_iconst 16 28 rfl rfl ci_m1 ?_
    refine p_icmp_ne 17 31 187 rfl rfl rfl (fun c2 => ?_) (fun c2 => ?_)
    · refine p_aload_n 97 188 0 rfl rfl rfl ?_
      refine p_iload 98 190 4 rfl rfl rfl ?_
      refine t_puti fl_X2_82 99 193 rfl rfl rfl rfl (by decide) (tws_18 _ _ _) ?_
      refine p_aload_n 100 194 0 rfl rfl rfl ?_
      refine t_geti (v := .ref (T + 14)) fl_X2_50 101 197 rfl rfl rfl ?_
      refine p_iload_n 102 198 1 rfl rfl rfl ?_
      refine p_iconst 103 199 rfl rfl ci_1 ?_
      refine t_iast (d := 14) (f := 15) 104 200 rfl rfl td_14 rfl tf_15 (b2 c1 c2) ?_
      refine p_aload_n 105 201 0 rfl rfl rfl ?_
      refine t_geti (v := .ref (T + 15)) fl_X2_53 106 204 rfl rfl rfl ?_
      refine p_iload_n 107 205 1 rfl rfl rfl ?_
      refine p_iload_n 108 206 3 rfl rfl rfl ?_
      refine t_iast (d := 15) (f := 16) 109 207 rfl rfl td_15 rfl tf_16 (b2 c1 c2) ?_
      exact t_vret 110 rfl rfl (k2 c1 c2)
    · refine p_iload 18 33 4 rfl rfl rfl ?_
      refine p_aload_n 19 34 0 rfl rfl rfl ?_
      refine t_geti (v := .int (σ.1 1)) fl_X2_79 20 37 rfl rfl rfl ?_
      refine p_icmp_ge 21 40 56 rfl rfl rfl (fun c3 => ?_) (fun c3 => ?_)
      · refine p_iconst 30 57 rfl rfl ci_0 ?_
        refine p_istore (lv' := [(6, .int 0), (0, .ref T), (1, .int x1), (2, .int x2), (3, .int x3), (4, .int x4), (5, .int x5)]) 31 59 rfl rfl (Nat.le_of_ble_eq_true rfl) rfl ?_
        refine p_iload 32 61 0 rfl rfl rfl ?_
        refine p_if_eq 33 64 93 rfl rfl rfl (fun _ => ?_) (fun c => absurd c (by decide))
        exact p_sub [1, 2, 3, 4, 5, 6, 0] rfl (k3 c1 c2 c3)
      · refine p_aload_n 22 41 0 rfl rfl rfl ?_
        refine t_geti (v := .ref (T + 1)) fl_X2_7 23 44 rfl rfl rfl ?_
        refine p_iload 24 46 4 rfl rfl rfl ?_
        refine t_iald (d := 1) (f := 2) (v := (σ.2.1 2 (x4 : Int32).toNatClampNeg)) 25 47 rfl rfl td_1 rfl tf_2 (b3 c1 c2 c3) rfl ?_
        refine p_bipush 26 49 rfl rfl cb_39 ?_
        refine p_icmp_ne 27 52 56 rfl rfl rfl (fun c4 => ?_) (fun c4 => ?_)
        · refine p_iconst 30 57 rfl rfl ci_0 ?_
          refine p_istore (lv' := [(6, .int 0), (0, .ref T), (1, .int x1), (2, .int x2), (3, .int x3), (4, .int x4), (5, .int x5)]) 31 59 rfl rfl (Nat.le_of_ble_eq_true rfl) rfl ?_
          refine p_iload 32 61 0 rfl rfl rfl ?_
          refine p_if_eq 33 64 93 rfl rfl rfl (fun _ => ?_) (fun c => absurd c (by decide))
          exact p_sub [1, 2, 3, 4, 5, 6, 0] rfl (k4 c1 c2 c3 c4)
        · refine p_iconst 28 53 rfl rfl ci_1 ?_
          refine p_goto 29 57 rfl rfl ?_
          refine p_istore (lv' := [(6, .int 1), (0, .ref T), (1, .int x1), (2, .int x2), (3, .int x3), (4, .int x4), (5, .int x5)]) 31 59 rfl rfl (Nat.le_of_ble_eq_true rfl) rfl ?_
          refine p_iload 32 61 0 rfl rfl rfl ?_
          refine p_if_eq 33 64 93 rfl rfl rfl (fun c => absurd c (by decide)) (fun _ => ?_)
          refine p_iload 34 66 5 rfl rfl rfl ?_
          refine p_iconst 35 67 rfl rfl ci_1 ?_
          refine p_iadd 36 68 rfl rfl ?_
          refine p_aload_n 37 69 1 rfl rfl rfl ?_
          refine t_geti (v := .int (σ.1 1)) fl_X2_79 38 72 rfl rfl rfl ?_
          refine p_icmp_ge 39 75 93 rfl rfl rfl (fun c5 => ?_) (fun c5 => ?_)
          · exact p_sub [1, 2, 3, 4, 5, 6, 0] rfl (k5 c1 c2 c3 c4 c5)
          · refine p_aload_n 40 76 1 rfl rfl rfl ?_
            refine t_geti (v := .ref (T + 1)) fl_X2_7 41 79 rfl rfl rfl ?_
            refine p_iload 42 81 5 rfl rfl rfl ?_
            refine p_iconst 43 82 rfl rfl ci_1 ?_
            refine p_iadd 44 83 rfl rfl ?_
            refine t_iald (d := 1) (f := 2) (v := (σ.2.1 2 ((x4 + 1) : Int32).toNatClampNeg)) 45 84 rfl rfl td_1 rfl tf_2 (b4 c1 c2 c3 c4 c5) rfl ?_
            refine p_bipush 46 86 rfl rfl cb_39 ?_
            refine p_icmp_ne 47 89 93 rfl rfl rfl (fun c6 => ?_) (fun c6 => ?_)
            · exact p_sub [1, 2, 3, 4, 5, 6, 0] rfl (k6 c1 c2 c3 c4 c5 c6)
            · refine p_iconst 48 90 rfl rfl ci_1 ?_
              refine p_goto 49 94 rfl rfl ?_
              refine p_istore (lv' := [(7, .int 1), (6, .int 1), (0, .ref T), (1, .int x1), (2, .int x2), (3, .int x3), (4, .int x4), (5, .int x5)]) 51 96 rfl rfl (Nat.le_of_ble_eq_true rfl) rfl ?_
              refine p_iload 52 98 6 rfl rfl rfl ?_
              refine p_aload_n 53 99 2 rfl rfl rfl ?_
              refine t_geti (v := .int (σ.1 1)) fl_X2_79 54 102 rfl rfl rfl ?_
              refine p_icmp_ge 55 105 121 rfl rfl rfl (fun c7 => ?_) (fun c7 => ?_)
              · refine p_aload_n 63 122 2 rfl rfl rfl ?_
                refine p_iload_n 64 123 4 rfl rfl rfl ?_
                exact t_cVv lk_X2_92 65 126 rfl rfl (by decide) [.int x2] rfl rfl (Nat.le_of_ble_eq_true rfl) (Nat.le_of_ble_eq_true rfl) (e7 c1 c2 c3 c4 c5 c6 c7) (fun σ1 h => p_sub [2, 3, 4, 5, 6, 7] rfl (k7 c1 c2 c3 c4 c5 c6 c7 σ1 h))
              · refine p_iload_n 56 106 5 rfl rfl rfl ?_
                refine p_bipush 57 108 rfl rfl cb_20 ?_
                refine p_icmp_ne 58 111 129 rfl rfl rfl (fun c8 => ?_) (fun c8 => ?_)
                · refine p_iload 67 131 1 rfl rfl rfl ?_
                  refine p_if_eq 68 134 148 rfl rfl rfl (fun c => absurd c (by decide)) (fun _ => ?_)
                  refine p_iload 69 136 0 rfl rfl rfl ?_
                  refine p_if_ne 70 139 148 rfl rfl rfl (fun _ => ?_) (fun c => absurd c (by decide))
                  refine p_aload_n 75 149 2 rfl rfl rfl ?_
                  refine t_geti (v := .ref (T + 16)) fl_X2_56 76 152 rfl rfl rfl ?_
                  refine p_bipush 77 154 rfl rfl cb_20 ?_
                  refine p_iload_n 78 155 3 rfl rfl rfl ?_
                  refine p_imul 79 156 rfl rfl ?_
                  refine p_iload_n 80 157 5 rfl rfl rfl ?_
                  refine p_iadd 81 158 rfl rfl ?_
                  refine p_aload_n 82 159 2 rfl rfl rfl ?_
                  refine t_geti (v := .ref (T + 1)) fl_X2_7 83 162 rfl rfl rfl ?_
                  refine p_iload 84 164 6 rfl rfl rfl ?_
                  refine t_iald (d := 1) (f := 2) (v := (σ.2.1 2 (x4 : Int32).toNatClampNeg)) 85 165 rfl rfl td_1 rfl tf_2 (b3 c1 c2 c3) rfl ?_
                  refine t_iast (d := 16) (f := 17) 86 166 rfl rfl td_16 rfl tf_17 (b5 c1 c2 c3 c4 c5 c6 c7 c8) ?_
                  refine p_iinc (v := (x3 + 1)) (lv' := [(3, .int (x3 + 1)), (7, .int 1), (6, .int 1), (0, .ref T), (1, .int x1), (2, .int x2), (4, .int x4), (5, .int x5)]) 87 169 5 rfl rfl rfl (congrArg (fun z => x3 + z) ci_1) (Nat.le_of_ble_eq_true rfl) rfl ?_
                  refine p_iload 88 171 6 rfl rfl rfl ?_
                  refine p_iload 89 173 1 rfl rfl rfl ?_
                  refine p_if_eq 90 176 180 rfl rfl rfl (fun c => absurd c (by decide)) (fun _ => ?_)
                  refine p_iconst 91 177 rfl rfl ci_2 ?_
                  refine p_goto 92 181 rfl rfl ?_
                  refine p_iadd 94 182 rfl rfl ?_
                  refine p_istore (lv' := [(4, .int (x4 + 2)), (3, .int (x3 + 1)), (7, .int 1), (6, .int 1), (0, .ref T), (1, .int x1), (2, .int x2), (5, .int x5)]) 95 184 rfl rfl (Nat.le_of_ble_eq_true rfl) rfl ?_
                  refine p_goto 96 18 rfl rfl ?_
                  exact p_sub [4, 5, 6, 1, 0, 7] rfl (k8 c1 c2 c3 c4 c5 c6 c7 c8)
                · refine p_iload 59 113 1 rfl rfl rfl ?_
                  refine p_if_eq 60 116 121 rfl rfl rfl (fun c => absurd c (by decide)) (fun _ => ?_)
                  refine p_iload 61 118 0 rfl rfl rfl ?_
                  refine p_if_eq 62 121 129 rfl rfl rfl (fun c => absurd c (by decide)) (fun _ => ?_)
                  refine p_aload_n 63 122 2 rfl rfl rfl ?_
                  refine p_iload_n 64 123 4 rfl rfl rfl ?_
                  exact t_cVv lk_X2_92 65 126 rfl rfl (by decide) [.int x2] rfl rfl (Nat.le_of_ble_eq_true rfl) (Nat.le_of_ble_eq_true rfl) (e9 c1 c2 c3 c4 c5 c6 c7 c8) (fun σ1 h => p_sub [2, 3, 4, 5, 6, 7] rfl (k9 c1 c2 c3 c4 c5 c6 c7 c8 σ1 h))
theorem b_writing_93 {G : Gm} {T : Nat} {w : Wd} {σ : TW} {Q : Option Value → TW → Prop} {x1 : Int32} {x2 : Int32} {x3 : Int32} {x4 : Int32} {x5 : Int32} {x6 : Int32} {Q1 : TW → Prop} (e1 : (σ.1 1) ≤ x4 → Tvv G T w mX2_wrongAt (.ref T :: [.int x2]) σ Q1) (k1 : (σ.1 1) ≤ x4 → ∀ σ1, Q1 σ1 → Tn G T w mX2_writing 126 [(0, .ref T), (1, .int x1), (2, .int x2), (3, .int x3), (4, .int x4), (5, .int x5)] [] σ1 Q) (b1 : ¬ (σ.1 1) ≤ x4 → ¬ x3 = 20 → x6 = 0 → vp_in x4 1200) (b2 : ¬ (σ.1 1) ≤ x4 → ¬ x3 = 20 → x6 = 0 → vp_in ((20 * x1) + x3) 19200) (k2 : ¬ (σ.1 1) ≤ x4 → ¬ x3 = 20 → x6 = 0 → Tn G T w mX2_writing 18 [(0, .ref T), (1, .int x1), (2, .int x2), (3, .int (x3 + 1)), (4, .int (x4 + 1)), (5, .int x5)] [] (tsA σ 17 (((20 * x1) + x3) : Int32).toNatClampNeg (σ.2.1 2 (x4 : Int32).toNatClampNeg)) Q) (k3 : ¬ (σ.1 1) ≤ x4 → ¬ x3 = 20 → ¬ x6 = 0 → Tn G T w mX2_writing 18 [(0, .ref T), (1, .int x1), (2, .int x2), (3, .int x3), (4, .int (x4 + 1)), (5, .int 0)] [] σ Q) {Q4 : TW → Prop} (e4 : ¬ (σ.1 1) ≤ x4 → x3 = 20 → x6 = 0 → Tvv G T w mX2_wrongAt (.ref T :: [.int x2]) σ Q4) (k4 : ¬ (σ.1 1) ≤ x4 → x3 = 20 → x6 = 0 → ∀ σ4, Q4 σ4 → Tn G T w mX2_writing 126 [(0, .ref T), (1, .int x1), (2, .int x2), (3, .int x3), (4, .int x4), (5, .int x5)] [] σ4 Q) (b3 : ¬ (σ.1 1) ≤ x4 → x3 = 20 → ¬ x6 = 0 → x6 = 0 → vp_in x4 1200) (b4 : ¬ (σ.1 1) ≤ x4 → x3 = 20 → ¬ x6 = 0 → x6 = 0 → vp_in ((20 * x1) + x3) 19200) (k5 : ¬ (σ.1 1) ≤ x4 → x3 = 20 → ¬ x6 = 0 → x6 = 0 → Tn G T w mX2_writing 18 [(0, .ref T), (1, .int x1), (2, .int x2), (3, .int (x3 + 1)), (4, .int (x4 + 1)), (5, .int x5)] [] (tsA σ 17 (((20 * x1) + x3) : Int32).toNatClampNeg (σ.2.1 2 (x4 : Int32).toNatClampNeg)) Q) (k6 : ¬ (σ.1 1) ≤ x4 → x3 = 20 → ¬ x6 = 0 → ¬ x6 = 0 → Tn G T w mX2_writing 18 [(0, .ref T), (1, .int x1), (2, .int x2), (3, .int x3), (4, .int (x4 + 1)), (5, .int 0)] [] σ Q) : Tn G T w mX2_writing 93 [(0, .ref T), (1, .int x1), (2, .int x2), (3, .int x3), (4, .int x4), (5, .int x5), (6, .int x6)] [] σ Q := by
  refine p_iconst 50 94 rfl rfl ci_0 ?_
  refine p_istore (lv' := [(7, .int 0), (0, .ref T), (1, .int x1), (2, .int x2), (3, .int x3), (4, .int x4), (5, .int x5), (6, .int x6)]) 51 96 rfl rfl (Nat.le_of_ble_eq_true rfl) rfl ?_
  refine p_iload 52 98 5 rfl rfl rfl ?_
  refine p_aload_n 53 99 1 rfl rfl rfl ?_
  refine t_geti (v := .int (σ.1 1)) fl_X2_79 54 102 rfl rfl rfl ?_
  refine p_icmp_ge 55 105 121 rfl rfl rfl (fun c1 => ?_) (fun c1 => ?_)
  · refine p_aload_n 63 122 1 rfl rfl rfl ?_
    refine p_iload_n 64 123 3 rfl rfl rfl ?_
    exact t_cVv lk_X2_92 65 126 rfl rfl (by decide) [.int x2] rfl rfl (Nat.le_of_ble_eq_true rfl) (Nat.le_of_ble_eq_true rfl) (e1 c1) (fun σ1 h => p_sub [1, 2, 3, 4, 5, 6] rfl (k1 c1 σ1 h))
  · refine p_iload_n 56 106 4 rfl rfl rfl ?_
    refine p_bipush 57 108 rfl rfl cb_20 ?_
    refine p_icmp_ne 58 111 129 rfl rfl rfl (fun c2 => ?_) (fun c2 => ?_)
    · refine p_iload 67 131 7 rfl rfl rfl ?_
      refine p_if_eq 68 134 148 rfl rfl rfl (fun c3 => ?_) (fun c3 => ?_)
      · refine p_aload_n 75 149 1 rfl rfl rfl ?_
        refine t_geti (v := .ref (T + 16)) fl_X2_56 76 152 rfl rfl rfl ?_
        refine p_bipush 77 154 rfl rfl cb_20 ?_
        refine p_iload_n 78 155 2 rfl rfl rfl ?_
        refine p_imul 79 156 rfl rfl ?_
        refine p_iload_n 80 157 4 rfl rfl rfl ?_
        refine p_iadd 81 158 rfl rfl ?_
        refine p_aload_n 82 159 1 rfl rfl rfl ?_
        refine t_geti (v := .ref (T + 1)) fl_X2_7 83 162 rfl rfl rfl ?_
        refine p_iload 84 164 5 rfl rfl rfl ?_
        refine t_iald (d := 1) (f := 2) (v := (σ.2.1 2 (x4 : Int32).toNatClampNeg)) 85 165 rfl rfl td_1 rfl tf_2 (b1 c1 c2 c3) rfl ?_
        refine t_iast (d := 16) (f := 17) 86 166 rfl rfl td_16 rfl tf_17 (b2 c1 c2 c3) ?_
        refine p_iinc (v := (x3 + 1)) (lv' := [(3, .int (x3 + 1)), (7, .int 0), (0, .ref T), (1, .int x1), (2, .int x2), (4, .int x4), (5, .int x5), (6, .int x6)]) 87 169 4 rfl rfl rfl (congrArg (fun z => x3 + z) ci_1) (Nat.le_of_ble_eq_true rfl) rfl ?_
        refine p_iload 88 171 5 rfl rfl rfl ?_
        refine p_iload 89 173 1 rfl rfl rfl ?_
        refine p_if_eq 90 176 180 rfl rfl rfl (fun _ => ?_) (fun c => absurd c (by decide))
        refine p_iconst 93 181 rfl rfl ci_1 ?_
        refine p_iadd 94 182 rfl rfl ?_
        refine p_istore (lv' := [(4, .int (x4 + 1)), (3, .int (x3 + 1)), (7, .int 0), (0, .ref T), (1, .int x1), (2, .int x2), (5, .int x5), (6, .int x6)]) 95 184 rfl rfl (Nat.le_of_ble_eq_true rfl) rfl ?_
        refine p_goto 96 18 rfl rfl ?_
        exact p_sub [3, 4, 5, 1, 0, 6] rfl (k2 c1 c2 c3)
      · refine p_iload 69 136 0 rfl rfl rfl ?_
        refine p_if_ne 70 139 148 rfl rfl rfl (fun c => absurd c (by decide)) (fun _ => ?_)
        refine p_iconst 71 140 rfl rfl ci_0 ?_
        refine p_istore (lv' := [(5, .int 0), (7, .int 0), (0, .ref T), (1, .int x1), (2, .int x2), (3, .int x3), (4, .int x4), (6, .int x6)]) 72 142 rfl rfl (Nat.le_of_ble_eq_true rfl) rfl ?_
        refine p_iinc (v := (x4 + 1)) (lv' := [(4, .int (x4 + 1)), (5, .int 0), (7, .int 0), (0, .ref T), (1, .int x1), (2, .int x2), (3, .int x3), (6, .int x6)]) 73 145 6 rfl rfl rfl (congrArg (fun z => x4 + z) ci_1) (Nat.le_of_ble_eq_true rfl) rfl ?_
        refine p_goto 74 184 rfl rfl ?_
        refine p_goto 96 18 rfl rfl ?_
        exact p_sub [3, 4, 5, 6, 0, 1] rfl (k3 c1 c2 c3)
    · refine p_iload 59 113 7 rfl rfl rfl ?_
      refine p_if_eq 60 116 121 rfl rfl rfl (fun c3 => ?_) (fun c3 => ?_)
      · refine p_aload_n 63 122 1 rfl rfl rfl ?_
        refine p_iload_n 64 123 3 rfl rfl rfl ?_
        exact t_cVv lk_X2_92 65 126 rfl rfl (by decide) [.int x2] rfl rfl (Nat.le_of_ble_eq_true rfl) (Nat.le_of_ble_eq_true rfl) (e4 c1 c2 c3) (fun σ1 h => p_sub [1, 2, 3, 4, 5, 6] rfl (k4 c1 c2 c3 σ1 h))
      · refine p_iload 61 118 0 rfl rfl rfl ?_
        refine p_if_eq 62 121 129 rfl rfl rfl (fun _ => ?_) (fun c => absurd c (by decide))
        refine p_iload 67 131 7 rfl rfl rfl ?_
        refine p_if_eq 68 134 148 rfl rfl rfl (fun c4 => ?_) (fun c4 => ?_)
        · refine p_aload_n 75 149 1 rfl rfl rfl ?_
          refine t_geti (v := .ref (T + 16)) fl_X2_56 76 152 rfl rfl rfl ?_
          refine p_bipush 77 154 rfl rfl cb_20 ?_
          refine p_iload_n 78 155 2 rfl rfl rfl ?_
          refine p_imul 79 156 rfl rfl ?_
          refine p_iload_n 80 157 4 rfl rfl rfl ?_
          refine p_iadd 81 158 rfl rfl ?_
          refine p_aload_n 82 159 1 rfl rfl rfl ?_
          refine t_geti (v := .ref (T + 1)) fl_X2_7 83 162 rfl rfl rfl ?_
          refine p_iload 84 164 5 rfl rfl rfl ?_
          refine t_iald (d := 1) (f := 2) (v := (σ.2.1 2 (x4 : Int32).toNatClampNeg)) 85 165 rfl rfl td_1 rfl tf_2 (b3 c1 c2 c3 c4) rfl ?_
          refine t_iast (d := 16) (f := 17) 86 166 rfl rfl td_16 rfl tf_17 (b4 c1 c2 c3 c4) ?_
          refine p_iinc (v := (x3 + 1)) (lv' := [(3, .int (x3 + 1)), (7, .int 0), (0, .ref T), (1, .int x1), (2, .int x2), (4, .int x4), (5, .int x5), (6, .int x6)]) 87 169 4 rfl rfl rfl (congrArg (fun z => x3 + z) ci_1) (Nat.le_of_ble_eq_true rfl) rfl ?_
          refine p_iload 88 171 5 rfl rfl rfl ?_
          refine p_iload 89 173 1 rfl rfl rfl ?_
          refine p_if_eq 90 176 180 rfl rfl rfl (fun _ => ?_) (fun c => absurd c (by decide))
          refine p_iconst 93 181 rfl rfl ci_1 ?_
          refine p_iadd 94 182 rfl rfl ?_
          refine p_istore (lv' := [(4, .int (x4 + 1)), (3, .int (x3 + 1)), (7, .int 0), (0, .ref T), (1, .int x1), (2, .int x2), (5, .int x5), (6, .int x6)]) 95 184 rfl rfl (Nat.le_of_ble_eq_true rfl) rfl ?_
          refine p_goto 96 18 rfl rfl ?_
          exact p_sub [3, 4, 5, 1, 0, 6] rfl (k5 c1 c2 c3 c4)
        · refine p_iload 69 136 0 rfl rfl rfl ?_
          refine p_if_ne 70 139 148 rfl rfl rfl (fun c => absurd c (by decide)) (fun _ => ?_)
          refine p_iconst 71 140 rfl rfl ci_0 ?_
          refine p_istore (lv' := [(5, .int 0), (7, .int 0), (0, .ref T), (1, .int x1), (2, .int x2), (3, .int x3), (4, .int x4), (6, .int x6)]) 72 142 rfl rfl (Nat.le_of_ble_eq_true rfl) rfl ?_
          refine p_iinc (v := (x4 + 1)) (lv' := [(4, .int (x4 + 1)), (5, .int 0), (7, .int 0), (0, .ref T), (1, .int x1), (2, .int x2), (3, .int x3), (6, .int x6)]) 73 145 6 rfl rfl rfl (congrArg (fun z => x4 + z) ci_1) (Nat.le_of_ble_eq_true rfl) rfl ?_
          refine p_goto 74 184 rfl rfl ?_
          refine p_goto 96 18 rfl rfl ?_
          exact p_sub [3, 4, 5, 6, 0, 1] rfl (k6 c1 c2 c3 c4)
theorem b_writing_126 {G : Gm} {T : Nat} {w : Wd} {σ : TW} {Q : Option Value → TW → Prop} {x1 : Int32} {x2 : Int32} {x3 : Int32} {x4 : Int32} {x5 : Int32} (k1 : Tn G T w mX2_writing 18 [(0, .ref T), (1, .int x1), (2, .int x2), (3, .int x3), (4, .int x4), (5, .int x5)] [] σ Q) : Tn G T w mX2_writing 126 [(0, .ref T), (1, .int x1), (2, .int x2), (3, .int x3), (4, .int x4), (5, .int x5)] [] σ Q := by
  refine p_goto 66 184 rfl rfl ?_
  refine p_goto 96 18 rfl rfl ?_
  exact k1 
theorem b_reference_0 {G : Gm} {T : Nat} {w : Wd} {σ : TW} {Q : Option Value → TW → Prop} {Q1 : TW → Prop} (e1 : Tvv G T w mX2_sign (.ref T :: [.int 35]) σ Q1) (k1 : ∀ σ1, Q1 σ1 → Tn G T w mX2_reference 6 [(0, .ref T)] [] σ1 Q) : Tn G T w mX2_reference 0 [(0, .ref T)] [] σ Q := by
  refine p_aload_n 0 1 0 rfl rfl rfl ?_
  refine p_bipush 1 3 rfl rfl cb_35 ?_
  exact t_cVv lk_X2_110 2 6 rfl rfl (by decide) [.int 35] rfl rfl (Nat.le_of_ble_eq_true rfl) (Nat.le_of_ble_eq_true rfl) (e1 ) (fun σ1 h => k1 σ1 h)
theorem b_reference_6 {G : Gm} {T : Nat} {w : Wd} {σ : TW} {Q : Option Value → TW → Prop} {Q1 : Int32 → TW → Prop} (e1 : Tvi G T w mX2_digits (.ref T :: [.int 3, .int (-1)]) σ Q1) (k1 : ∀ (y1 : Int32) σ1, Q1 y1 σ1 → Tn G T w mX2_reference 12 [(0, .ref T)] [.int y1] σ1 Q) : Tn G T w mX2_reference 6 [(0, .ref T)] [] σ Q := by
  refine p_aload_n 3 7 0 rfl rfl rfl ?_
  refine p_iconst 4 8 rfl rfl ci_3 ?_
  refine p_iconst 5 9 rfl rfl ci_m1 ?_
  exact t_cVi lk_X2_106 6 12 rfl rfl (by decide) [.int 3, .int (-1)] rfl rfl (Nat.le_of_ble_eq_true rfl) (Nat.le_of_ble_eq_true rfl) (e1 ) (fun x σ1 h => k1 x σ1 h)
theorem b_reference_12 {G : Gm} {T : Nat} {w : Wd} {σ : TW} {Q : Option Value → TW → Prop} {s0 : Int32} (k1 : ¬ s0 = 0 → Tn G T w mX2_reference 25 [(1, .int s0)] [] σ Q) {Q2 : TW → Prop} (e2 : s0 = 0 → Tvv G T w mX2_wrongAt (.ref T :: [.int (σ.1 20)]) σ Q2) (k2 : s0 = 0 → ∀ σ2, Q2 σ2 → Tn G T w mX2_reference 25 [(1, .int s0)] [] σ2 Q) : Tn G T w mX2_reference 12 [(0, .ref T)] [.int s0] σ Q := by
  refine p_istore_n (lv' := [(1, .int s0), (0, .ref T)]) 7 13 rfl rfl (Nat.le_of_ble_eq_true rfl) rfl ?_
  refine p_iload_n 8 14 0 rfl rfl rfl ?_
  refine p_if_ne 9 17 25 rfl rfl rfl (fun c1 => ?_) (fun c1 => ?_)
  · exact p_sub [0] rfl (k1 c1)
  · refine p_aload_n 10 18 1 rfl rfl rfl ?_
    refine p_aload_n 11 19 1 rfl rfl rfl ?_
    refine t_geti (v := .int (σ.1 20)) fl_X2_96 12 22 rfl rfl rfl ?_
    exact t_cVv lk_X2_92 13 25 rfl rfl (by decide) [.int (σ.1 20)] rfl rfl (Nat.le_of_ble_eq_true rfl) (Nat.le_of_ble_eq_true rfl) (e2 c1) (fun σ1 h => p_sub [0] rfl (k2 c1 σ1 h))
theorem b_reference_25 {G : Gm} {T : Nat} {w : Wd} {σ : TW} {Q : Option Value → TW → Prop} {x1 : Int32} (k1 : Q (some (.int x1)) σ) : Tn G T w mX2_reference 25 [(1, .int x1)] [] σ Q := by
  refine p_iload_n 14 26 0 rfl rfl rfl ?_
  exact t_iret 15 rfl rfl rfl (k1 )
theorem b_list_0 {G : Gm} {T : Nat} {w : Wd} {σ : TW} {Q : Option Value → TW → Prop} {x1 : Int32} {Q1 : TW → Prop} (e1 : Tvv G T w mX2_sign (.ref T :: [.int 40]) σ Q1) (k1 : ∀ σ1, Q1 σ1 → Tn G T w mX2_list 6 [(0, .ref T), (1, .int x1)] [] σ1 Q) : Tn G T w mX2_list 0 [(0, .ref T), (1, .int x1)] [] σ Q := by
  refine p_aload_n 0 1 0 rfl rfl rfl ?_
  refine p_bipush 1 3 rfl rfl cb_40 ?_
  exact t_cVv lk_X2_110 2 6 rfl rfl (by decide) [.int 40] rfl rfl (Nat.le_of_ble_eq_true rfl) (Nat.le_of_ble_eq_true rfl) (e1 ) (fun σ1 h => k1 σ1 h)
theorem b_list_6 {G : Gm} {T : Nat} {w : Wd} {σ : TW} {Q : Option Value → TW → Prop} {x1 : Int32} {Q1 : Int32 → TW → Prop} (e1 : Tvi G T w mX2_peek (.ref T :: []) σ Q1) (k1 : ∀ (y1 : Int32) σ1, Q1 y1 σ1 → Tn G T w mX2_list 12 [(0, .ref T), (1, .int x1), (2, .int 0)] [.int y1] σ1 Q) : Tn G T w mX2_list 6 [(0, .ref T), (1, .int x1)] [] σ Q := by
  refine p_iconst 3 7 rfl rfl ci_0 ?_
  refine p_istore_n (lv' := [(2, .int 0), (0, .ref T), (1, .int x1)]) 4 8 rfl rfl (Nat.le_of_ble_eq_true rfl) rfl ?_
  refine p_aload_n 5 9 1 rfl rfl rfl ?_
  exact t_cVi lk_X2_88 6 12 rfl rfl (by decide) [] rfl rfl (Nat.le_of_ble_eq_true rfl) (Nat.le_of_ble_eq_true rfl) (e1 ) (fun x σ1 h => p_sub [1, 2, 0] rfl (k1 x σ1 h))
theorem b_list_12 {G : Gm} {T : Nat} {w : Wd} {σ : TW} {Q : Option Value → TW → Prop} {x1 : Int32} {x2 : Int32} {s0 : Int32} (b1 : ¬ s0 = 35 → vp_in x1 960) (k1 : ¬ s0 = 35 → s0 = 41 → Tn G T w mX2_list 43 [(0, .ref T), (1, .int x1), (2, .int x2), (4, .int 0)] [] (tsA σ 15 (x1 : Int32).toNatClampNeg 3) Q) (k2 : ¬ s0 = 35 → ¬ s0 = 41 → Tn G T w mX2_list 43 [(0, .ref T), (1, .int x1), (2, .int x2), (4, .int 1)] [] (tsA σ 15 (x1 : Int32).toNatClampNeg 3) Q) (b2 : s0 = 35 → vp_in x1 960) (k3 : s0 = 35 → s0 = 41 → Tn G T w mX2_list 43 [(0, .ref T), (1, .int x1), (2, .int x2), (4, .int 0)] [] (tsA σ 15 (x1 : Int32).toNatClampNeg 4) Q) (k4 : s0 = 35 → ¬ s0 = 41 → Tn G T w mX2_list 43 [(0, .ref T), (1, .int x1), (2, .int x2), (4, .int 1)] [] (tsA σ 15 (x1 : Int32).toNatClampNeg 4) Q) : Tn G T w mX2_list 12 [(0, .ref T), (1, .int x1), (2, .int x2)] [.int s0] σ Q := by
  refine p_istore_n (lv' := [(3, .int s0), (0, .ref T), (1, .int x1), (2, .int x2)]) 7 13 rfl rfl (Nat.le_of_ble_eq_true rfl) rfl ?_
  refine p_aload_n 8 14 1 rfl rfl rfl ?_
  refine t_geti (v := .ref (T + 14)) fl_X2_50 9 17 rfl rfl rfl ?_
  refine p_iload_n 10 18 2 rfl rfl rfl ?_
  refine p_iload_n 11 19 0 rfl rfl rfl ?_
  refine p_bipush 12 21 rfl rfl cb_35 ?_
  refine p_icmp_ne 13 24 28 rfl rfl rfl (fun c1 => ?_) (fun c1 => ?_)
  · refine p_iconst 16 29 rfl rfl ci_3 ?_
    refine t_iast (d := 14) (f := 15) 17 30 rfl rfl td_14 rfl tf_15 (b1 c1) ?_
    refine p_iload_n 18 31 0 rfl rfl rfl ?_
    refine p_bipush 19 33 rfl rfl cb_41 ?_
    refine p_icmp_eq 20 36 40 rfl rfl rfl (fun c2 => ?_) (fun c2 => ?_)
    · refine p_iconst 23 41 rfl rfl ci_0 ?_
      refine p_istore (lv' := [(4, .int 0), (3, .int s0), (0, .ref T), (1, .int x1), (2, .int x2)]) 24 43 rfl rfl (Nat.le_of_ble_eq_true rfl) rfl ?_
      exact p_sub [2, 3, 4, 0] rfl (k1 c1 c2)
    · refine p_iconst 21 37 rfl rfl ci_1 ?_
      refine p_goto 22 41 rfl rfl ?_
      refine p_istore (lv' := [(4, .int 1), (3, .int s0), (0, .ref T), (1, .int x1), (2, .int x2)]) 24 43 rfl rfl (Nat.le_of_ble_eq_true rfl) rfl ?_
      exact p_sub [2, 3, 4, 0] rfl (k2 c1 c2)
  · refine p_iconst 14 25 rfl rfl ci_4 ?_
    refine p_goto 15 29 rfl rfl ?_
    refine t_iast (d := 14) (f := 15) 17 30 rfl rfl td_14 rfl tf_15 (b2 c1) ?_
    refine p_iload_n 18 31 0 rfl rfl rfl ?_
    refine p_bipush 19 33 rfl rfl cb_41 ?_
    refine p_icmp_eq 20 36 40 rfl rfl rfl (fun c2 => ?_) (fun c2 => ?_)
    · refine p_iconst 23 41 rfl rfl ci_0 ?_
      refine p_istore (lv' := [(4, .int 0), (3, .int s0), (0, .ref T), (1, .int x1), (2, .int x2)]) 24 43 rfl rfl (Nat.le_of_ble_eq_true rfl) rfl ?_
      exact p_sub [2, 3, 4, 0] rfl (k3 c1 c2)
    · refine p_iconst 21 37 rfl rfl ci_1 ?_
      refine p_goto 22 41 rfl rfl ?_
      refine p_istore (lv' := [(4, .int 1), (3, .int s0), (0, .ref T), (1, .int x1), (2, .int x2)]) 24 43 rfl rfl (Nat.le_of_ble_eq_true rfl) rfl ?_
      exact p_sub [2, 3, 4, 0] rfl (k4 c1 c2)
theorem b_list_43 {G : Gm} {T : Nat} {w : Wd} {σ : TW} {Q : Option Value → TW → Prop} {x1 : Int32} {x2 : Int32} {x4 : Int32} {Q1 : TW → Prop} (e1 : x4 = 0 → Tvv G T w mX2_sign (.ref T :: [.int 41]) σ Q1) (k1 : x4 = 0 → ∀ σ1, Q1 σ1 → Tn G T w mX2_list 196 [(0, .ref T), (1, .int x1), (2, .int x2)] [] σ1 Q) {Q2 : TW → Prop} (e2 : ¬ x4 = 0 → ¬ (σ.1 19) = (-1) → Tvv G T w mX2_sign (.ref T :: [.int 41]) σ Q2) (k2 : ¬ x4 = 0 → ¬ (σ.1 19) = (-1) → ∀ σ2, Q2 σ2 → Tn G T w mX2_list 196 [(0, .ref T), (1, .int x1), (2, .int x2)] [] σ2 Q) {Q3 : Int32 → TW → Prop} (e3 : ¬ x4 = 0 → (σ.1 19) = (-1) → Tvi G T w mX2_peek (.ref T :: []) σ Q3) (k3 : ¬ x4 = 0 → (σ.1 19) = (-1) → ∀ (y3 : Int32) σ3, Q3 y3 σ3 → Tn G T w mX2_list 60 [(0, .ref T), (1, .int x1), (2, .int x2), (4, .int x4)] [.int y3] σ3 Q) : Tn G T w mX2_list 43 [(0, .ref T), (1, .int x1), (2, .int x2), (4, .int x4)] [] σ Q := by
  refine p_iload 25 45 3 rfl rfl rfl ?_
  refine p_if_eq 26 48 190 rfl rfl rfl (fun c1 => ?_) (fun c1 => ?_)
  · refine p_aload_n 101 191 0 rfl rfl rfl ?_
    refine p_bipush 102 193 rfl rfl cb_41 ?_
    exact t_cVv lk_X2_110 103 196 rfl rfl (by decide) [.int 41] rfl rfl (Nat.le_of_ble_eq_true rfl) (Nat.le_of_ble_eq_true rfl) (e1 c1) (fun σ1 h => p_sub [0, 1, 2] rfl (k1 c1 σ1 h))
  · refine p_aload_n 27 49 0 rfl rfl rfl ?_
    refine t_geti (v := .int (σ.1 19)) fl_X2_85 28 52 rfl rfl rfl ?_
    refine p_iconst 29 53 rfl rfl ci_m1 ?_
    refine p_icmp_ne 30 56 190 rfl rfl rfl (fun c2 => ?_) (fun c2 => ?_)
    · refine p_aload_n 101 191 0 rfl rfl rfl ?_
      refine p_bipush 102 193 rfl rfl cb_41 ?_
      exact t_cVv lk_X2_110 103 196 rfl rfl (by decide) [.int 41] rfl rfl (Nat.le_of_ble_eq_true rfl) (Nat.le_of_ble_eq_true rfl) (e2 c1 c2) (fun σ1 h => p_sub [0, 1, 2] rfl (k2 c1 c2 σ1 h))
    · refine p_aload_n 31 57 0 rfl rfl rfl ?_
      exact t_cVi lk_X2_88 32 60 rfl rfl (by decide) [] rfl rfl (Nat.le_of_ble_eq_true rfl) (Nat.le_of_ble_eq_true rfl) (e3 c1 c2) (fun x σ1 h => k3 c1 c2 x σ1 h)
theorem b_list_60 {G : Gm} {T : Nat} {w : Wd} {σ : TW} {Q : Option Value → TW → Prop} {x1 : Int32} {x2 : Int32} {x4 : Int32} {s0 : Int32} (b1 : vp_in x1 960) {Q1 : Int32 → Prop} (e1 : ¬ (σ.2.1 15 (x1 : Int32).toNatClampNeg) = 4 → Svi G mX2_beginsNumber [.int s0] Q1) (k1 : ¬ (σ.2.1 15 (x1 : Int32).toNatClampNeg) = 4 → ∀ (y1 : Int32), Q1 y1 → Tn G T w mX2_list 89 [(0, .ref T), (1, .int x1), (2, .int x2), (4, .int x4)] [.int y1] σ Q) (k2 : (σ.2.1 15 (x1 : Int32).toNatClampNeg) = 4 → ¬ s0 = 35 → Tn G T w mX2_list 89 [(0, .ref T), (1, .int x1), (2, .int x2), (4, .int x4)] [.int 0] σ Q) (k3 : (σ.2.1 15 (x1 : Int32).toNatClampNeg) = 4 → s0 = 35 → Tn G T w mX2_list 89 [(0, .ref T), (1, .int x1), (2, .int x2), (4, .int x4)] [.int 1] σ Q) : Tn G T w mX2_list 60 [(0, .ref T), (1, .int x1), (2, .int x2), (4, .int x4)] [.int s0] σ Q := by
  refine p_istore_n (lv' := [(3, .int s0), (0, .ref T), (1, .int x1), (2, .int x2), (4, .int x4)]) 33 61 rfl rfl (Nat.le_of_ble_eq_true rfl) rfl ?_
  refine p_aload_n 34 62 1 rfl rfl rfl ?_
  refine t_geti (v := .ref (T + 14)) fl_X2_50 35 65 rfl rfl rfl ?_
  refine p_iload_n 36 66 2 rfl rfl rfl ?_
  refine t_iald (d := 14) (f := 15) (v := (σ.2.1 15 (x1 : Int32).toNatClampNeg)) 37 67 rfl rfl td_14 rfl tf_15 b1 rfl ?_
  refine p_iconst 38 68 rfl rfl ci_4 ?_
  refine p_icmp_ne 39 71 85 rfl rfl rfl (fun c1 => ?_) (fun c1 => ?_)
  · refine p_iload_n 47 86 0 rfl rfl rfl ?_
    exact t_cSi lk_X2_128 48 89 rfl rfl (by decide) [.int s0] rfl rfl (Nat.le_of_ble_eq_true rfl) (Nat.le_of_ble_eq_true rfl) (e1 c1) (fun x h => p_sub [1, 2, 3, 4] rfl (k1 c1 x h))
  · refine p_iload_n 40 72 0 rfl rfl rfl ?_
    refine p_bipush 41 74 rfl rfl cb_35 ?_
    refine p_icmp_ne 42 77 81 rfl rfl rfl (fun c2 => ?_) (fun c2 => ?_)
    · refine p_iconst 45 82 rfl rfl ci_0 ?_
      refine p_goto 46 89 rfl rfl ?_
      exact p_sub [1, 2, 3, 4] rfl (k2 c1 c2)
    · refine p_iconst 43 78 rfl rfl ci_1 ?_
      refine p_goto 44 89 rfl rfl ?_
      exact p_sub [1, 2, 3, 4] rfl (k3 c1 c2)
theorem b_list_89 {G : Gm} {T : Nat} {w : Wd} {σ : TW} {Q : Option Value → TW → Prop} {x1 : Int32} {x2 : Int32} {x4 : Int32} {s0 : Int32} {Q1 : TW → Prop} (e1 : x2 = 6 → Tvv G T w mX2_wrongAt (.ref T :: [.int (σ.1 18)]) σ Q1) (k1 : x2 = 6 → ∀ σ1, Q1 σ1 → Tn G T w mX2_list 110 [(0, .ref T), (1, .int x1), (2, .int x2), (4, .int x4)] [] σ1 Q) (b1 : ¬ x2 = 6 → ¬ s0 = 0 → vp_in x1 960) {Q2 : Int32 → TW → Prop} (e2 : ¬ x2 = 6 → ¬ s0 = 0 → ¬ (σ.2.1 15 (x1 : Int32).toNatClampNeg) = 4 → Tvi G T w mX2_number (.ref T :: []) σ Q2) (k2 : ¬ x2 = 6 → ¬ s0 = 0 → ¬ (σ.2.1 15 (x1 : Int32).toNatClampNeg) = 4 → ∀ (y2 : Int32) σ2, Q2 y2 σ2 → Tn G T w mX2_list 144 [(0, .ref T), (1, .int x1), (2, .int x2)] [.int y2, .int ((20 * x1) + x2), .ref (T + 16)] σ2 Q) {Q3 : Int32 → TW → Prop} (e3 : ¬ x2 = 6 → ¬ s0 = 0 → (σ.2.1 15 (x1 : Int32).toNatClampNeg) = 4 → Tvi G T w mX2_reference (.ref T :: []) σ Q3) (k3 : ¬ x2 = 6 → ¬ s0 = 0 → (σ.2.1 15 (x1 : Int32).toNatClampNeg) = 4 → ∀ (y3 : Int32) σ3, Q3 y3 σ3 → Tn G T w mX2_list 137 [(0, .ref T), (1, .int x1), (2, .int x2)] [.int y3, .int ((20 * x1) + x2), .ref (T + 16)] σ3 Q) {Q4 : TW → Prop} (e4 : ¬ x2 = 6 → s0 = 0 → Tvv G T w mX2_wrongAt (.ref T :: [.int (σ.1 18)]) σ Q4) (k4 : ¬ x2 = 6 → s0 = 0 → ∀ σ4, Q4 σ4 → Tn G T w mX2_list 110 [(0, .ref T), (1, .int x1), (2, .int x2), (4, .int x4)] [] σ4 Q) : Tn G T w mX2_list 89 [(0, .ref T), (1, .int x1), (2, .int x2), (4, .int x4)] [.int s0] σ Q := by
  refine p_istore (lv' := [(5, .int s0), (0, .ref T), (1, .int x1), (2, .int x2), (4, .int x4)]) 49 91 rfl rfl (Nat.le_of_ble_eq_true rfl) rfl ?_
  refine p_iload_n 50 92 3 rfl rfl rfl ?_
  refine p_bipush 51 94 rfl rfl cb_6 ?_
  refine p_icmp_eq 52 97 102 rfl rfl rfl (fun c1 => ?_) (fun c1 => ?_)
  · refine p_aload_n 55 103 1 rfl rfl rfl ?_
    refine p_aload_n 56 104 1 rfl rfl rfl ?_
    refine t_geti (v := .int (σ.1 18)) fl_X2_82 57 107 rfl rfl rfl ?_
    exact t_cVv lk_X2_92 58 110 rfl rfl (by decide) [.int (σ.1 18)] rfl rfl (Nat.le_of_ble_eq_true rfl) (Nat.le_of_ble_eq_true rfl) (e1 c1) (fun σ1 h => p_sub [1, 2, 3, 4] rfl (k1 c1 σ1 h))
  · refine p_iload 53 99 0 rfl rfl rfl ?_
    refine p_if_ne 54 102 113 rfl rfl rfl (fun c2 => ?_) (fun c2 => ?_)
    · refine p_aload_n 60 114 1 rfl rfl rfl ?_
      refine t_geti (v := .ref (T + 16)) fl_X2_56 61 117 rfl rfl rfl ?_
      refine p_bipush 62 119 rfl rfl cb_20 ?_
      refine p_iload_n 63 120 2 rfl rfl rfl ?_
      refine p_imul 64 121 rfl rfl ?_
      refine p_iload_n 65 122 3 rfl rfl rfl ?_
      refine p_iadd 66 123 rfl rfl ?_
      refine p_aload_n 67 124 1 rfl rfl rfl ?_
      refine t_geti (v := .ref (T + 14)) fl_X2_50 68 127 rfl rfl rfl ?_
      refine p_iload_n 69 128 2 rfl rfl rfl ?_
      refine t_iald (d := 14) (f := 15) (v := (σ.2.1 15 (x1 : Int32).toNatClampNeg)) 70 129 rfl rfl td_14 rfl tf_15 (b1 c1 c2) rfl ?_
      refine p_iconst 71 130 rfl rfl ci_4 ?_
      refine p_icmp_ne 72 133 140 rfl rfl rfl (fun c3 => ?_) (fun c3 => ?_)
      · refine p_aload_n 76 141 1 rfl rfl rfl ?_
        exact t_cVi lk_X2_134 77 144 rfl rfl (by decide) [] rfl rfl (Nat.le_of_ble_eq_true rfl) (Nat.le_of_ble_eq_true rfl) (e2 c1 c2 c3) (fun x σ1 h => p_sub [1, 2, 3] rfl (k2 c1 c2 c3 x σ1 h))
      · refine p_aload_n 73 134 1 rfl rfl rfl ?_
        exact t_cVi lk_X2_131 74 137 rfl rfl (by decide) [] rfl rfl (Nat.le_of_ble_eq_true rfl) (Nat.le_of_ble_eq_true rfl) (e3 c1 c2 c3) (fun x σ1 h => p_sub [1, 2, 3] rfl (k3 c1 c2 c3 x σ1 h))
    · refine p_aload_n 55 103 1 rfl rfl rfl ?_
      refine p_aload_n 56 104 1 rfl rfl rfl ?_
      refine t_geti (v := .int (σ.1 18)) fl_X2_82 57 107 rfl rfl rfl ?_
      exact t_cVv lk_X2_92 58 110 rfl rfl (by decide) [.int (σ.1 18)] rfl rfl (Nat.le_of_ble_eq_true rfl) (Nat.le_of_ble_eq_true rfl) (e4 c1 c2) (fun σ1 h => p_sub [1, 2, 3, 4] rfl (k4 c1 c2 σ1 h))
theorem b_list_110 {G : Gm} {T : Nat} {w : Wd} {σ : TW} {Q : Option Value → TW → Prop} {x1 : Int32} {x2 : Int32} {x4 : Int32} (k1 : Tn G T w mX2_list 43 [(0, .ref T), (1, .int x1), (2, .int x2), (4, .int x4)] [] σ Q) : Tn G T w mX2_list 110 [(0, .ref T), (1, .int x1), (2, .int x2), (4, .int x4)] [] σ Q := by
  refine p_goto 59 187 rfl rfl ?_
  refine p_goto 100 43 rfl rfl ?_
  exact k1 
theorem b_list_137 {G : Gm} {T : Nat} {w : Wd} {σ : TW} {Q : Option Value → TW → Prop} {x1 : Int32} {x2 : Int32} {s0 : Int32} {s1 : Int32} (k1 : Tn G T w mX2_list 144 [(0, .ref T), (1, .int x1), (2, .int x2)] [.int s0, .int s1, .ref (T + 16)] σ Q) : Tn G T w mX2_list 137 [(0, .ref T), (1, .int x1), (2, .int x2)] [.int s0, .int s1, .ref (T + 16)] σ Q := by
  refine p_goto 75 144 rfl rfl ?_
  exact k1 
theorem b_list_144 {G : Gm} {T : Nat} {w : Wd} {σ : TW} {Q : Option Value → TW → Prop} {x1 : Int32} {x2 : Int32} {s0 : Int32} {s1 : Int32} (b1 : vp_in s1 19200) (k1 : ¬ (σ.1 19) = (-1) → Tn G T w mX2_list 43 [(0, .ref T), (1, .int x1), (2, .int (x2 + 1)), (4, .int 0)] [] (tsA σ 17 (s1 : Int32).toNatClampNeg s0) Q) {Q2 : Int32 → TW → Prop} (e2 : (σ.1 19) = (-1) → Tvi G T w mX2_peek (.ref T :: []) (tsA σ 17 (s1 : Int32).toNatClampNeg s0) Q2) (k2 : (σ.1 19) = (-1) → ∀ (y2 : Int32) σ2, Q2 y2 σ2 → Tn G T w mX2_list 160 [(0, .ref T), (1, .int x1), (2, .int (x2 + 1))] [.int y2] σ2 Q) : Tn G T w mX2_list 144 [(0, .ref T), (1, .int x1), (2, .int x2)] [.int s0, .int s1, .ref (T + 16)] σ Q := by
  refine t_iast (d := 16) (f := 17) 78 145 rfl rfl td_16 rfl tf_17 b1 ?_
  refine p_iinc (v := (x2 + 1)) (lv' := [(2, .int (x2 + 1)), (0, .ref T), (1, .int x1)]) 79 148 2 rfl rfl rfl (congrArg (fun z => x2 + z) ci_1) (Nat.le_of_ble_eq_true rfl) rfl ?_
  refine p_aload_n 80 149 1 rfl rfl rfl ?_
  refine t_geti (v := .int (σ.1 19)) fl_X2_85 81 152 rfl rfl rfl ?_
  refine p_iconst 82 153 rfl rfl ci_m1 ?_
  refine p_icmp_ne 83 156 169 rfl rfl rfl (fun c1 => ?_) (fun c1 => ?_)
  · refine p_iconst 90 170 rfl rfl ci_0 ?_
    refine p_istore (lv' := [(4, .int 0), (2, .int (x2 + 1)), (0, .ref T), (1, .int x1)]) 91 172 rfl rfl (Nat.le_of_ble_eq_true rfl) rfl ?_
    refine p_iload 92 174 0 rfl rfl rfl ?_
    refine p_if_eq 93 177 187 rfl rfl rfl (fun _ => ?_) (fun c => absurd c (by decide))
    refine p_goto 100 43 rfl rfl ?_
    exact p_sub [2, 3, 1, 0] rfl (k1 c1)
  · refine p_aload_n 84 157 1 rfl rfl rfl ?_
    exact t_cVi lk_X2_88 85 160 rfl rfl (by decide) [] rfl rfl (Nat.le_of_ble_eq_true rfl) (Nat.le_of_ble_eq_true rfl) (e2 c1) (fun x σ1 h => p_sub [1, 2, 0] rfl (k2 c1 x σ1 h))
theorem b_list_160 {G : Gm} {T : Nat} {w : Wd} {σ : TW} {Q : Option Value → TW → Prop} {x1 : Int32} {x2 : Int32} {s0 : Int32} (k1 : ¬ s0 = 44 → Tn G T w mX2_list 43 [(0, .ref T), (1, .int x1), (2, .int x2), (4, .int 0)] [] σ Q) (k2 : s0 = 44 → Tn G T w mX2_list 43 [(0, .ref T), (1, .int x1), (2, .int x2), (4, .int 1)] [] (tsI σ 18 ((σ.1 18) + 1)) Q) : Tn G T w mX2_list 160 [(0, .ref T), (1, .int x1), (2, .int x2)] [.int s0] σ Q := by
  refine p_bipush 86 162 rfl rfl cb_44 ?_
  refine p_icmp_ne 87 165 169 rfl rfl rfl (fun c1 => ?_) (fun c1 => ?_)
  · refine p_iconst 90 170 rfl rfl ci_0 ?_
    refine p_istore (lv' := [(4, .int 0), (0, .ref T), (1, .int x1), (2, .int x2)]) 91 172 rfl rfl (Nat.le_of_ble_eq_true rfl) rfl ?_
    refine p_iload 92 174 0 rfl rfl rfl ?_
    refine p_if_eq 93 177 187 rfl rfl rfl (fun _ => ?_) (fun c => absurd c (by decide))
    refine p_goto 100 43 rfl rfl ?_
    exact p_sub [1, 2, 3, 0] rfl (k1 c1)
  · refine p_iconst 88 166 rfl rfl ci_1 ?_
    refine p_goto 89 170 rfl rfl ?_
    refine p_istore (lv' := [(4, .int 1), (0, .ref T), (1, .int x1), (2, .int x2)]) 91 172 rfl rfl (Nat.le_of_ble_eq_true rfl) rfl ?_
    refine p_iload 92 174 0 rfl rfl rfl ?_
    refine p_if_eq 93 177 187 rfl rfl rfl (fun c => absurd c (by decide)) (fun _ => ?_)
    refine p_aload_n 94 178 1 rfl rfl rfl ?_
    refine p_dup 95 179 rfl rfl rfl ?_
    refine t_geti (v := .int (σ.1 18)) fl_X2_82 96 182 rfl rfl rfl ?_
    refine p_iconst 97 183 rfl rfl ci_1 ?_
    refine p_iadd 98 184 rfl rfl ?_
    refine t_puti fl_X2_82 99 187 rfl rfl rfl rfl (by decide) (tws_18 _ _ _) ?_
    refine p_goto 100 43 rfl rfl ?_
    exact p_sub [1, 2, 3, 0] rfl (k2 c1)
theorem b_list_196 {G : Gm} {T : Nat} {w : Wd} {σ : TW} {Q : Option Value → TW → Prop} {x1 : Int32} {x2 : Int32} (b1 : vp_in x1 960) (k1 : Q none (tsA σ 16 (x1 : Int32).toNatClampNeg x2)) : Tn G T w mX2_list 196 [(0, .ref T), (1, .int x1), (2, .int x2)] [] σ Q := by
  refine p_aload_n 104 197 0 rfl rfl rfl ?_
  refine t_geti (v := .ref (T + 15)) fl_X2_53 105 200 rfl rfl rfl ?_
  refine p_iload_n 106 201 1 rfl rfl rfl ?_
  refine p_iload_n 107 202 2 rfl rfl rfl ?_
  refine t_iast (d := 15) (f := 16) 108 203 rfl rfl td_15 rfl tf_16 b1 ?_
  exact t_vret 109 rfl rfl (k1 )
theorem b_isMissing_0 {G : Gm} {T : Nat} {w : Wd} {σ : TW} {Q : Option Value → TW → Prop} {x1 : Int32} (k1 : Tn G T w mX2_isMissing 7 [(0, .ref T), (1, .int x1), (2, .int 0), (3, .int (8 * x1))] [] σ Q) : Tn G T w mX2_isMissing 0 [(0, .ref T), (1, .int x1)] [] σ Q := by
  refine p_iconst 0 1 rfl rfl ci_0 ?_
  refine p_istore_n (lv' := [(2, .int 0), (0, .ref T), (1, .int x1)]) 1 2 rfl rfl (Nat.le_of_ble_eq_true rfl) rfl ?_
  refine p_bipush 2 4 rfl rfl cb_8 ?_
  refine p_iload_n 3 5 2 rfl rfl rfl ?_
  refine p_imul 4 6 rfl rfl ?_
  refine p_istore_n (lv' := [(3, .int (8 * x1)), (2, .int 0), (0, .ref T), (1, .int x1)]) 5 7 rfl rfl (Nat.le_of_ble_eq_true rfl) rfl ?_
  exact p_sub [2, 3, 1, 0] rfl (k1 )
theorem b_isMissing_7 {G : Gm} {T : Nat} {w : Wd} {σ : TW} {Q : Option Value → TW → Prop} {x1 : Int32} {x2 : Int32} {x3 : Int32} (b1 : vp_in x1 120) (b2 : ((8 * x1) + (σ.2.1 14 (x1 : Int32).toNatClampNeg)) ≤ x3 → narrow .boolean (.int x2) = .int x2) (k1 : ((8 * x1) + (σ.2.1 14 (x1 : Int32).toNatClampNeg)) ≤ x3 → Q (some (.int x2)) σ) (b3 : ¬ ((8 * x1) + (σ.2.1 14 (x1 : Int32).toNatClampNeg)) ≤ x3 → vp_in x3 960) (k2 : ¬ ((8 * x1) + (σ.2.1 14 (x1 : Int32).toNatClampNeg)) ≤ x3 → ¬ (σ.2.1 15 (x3 : Int32).toNatClampNeg) = 2 → Tn G T w mX2_isMissing 60 [(0, .ref T), (1, .int x1), (2, .int x2), (3, .int x3), (4, .int 0)] [] σ Q) (k3 : ¬ ((8 * x1) + (σ.2.1 14 (x1 : Int32).toNatClampNeg)) ≤ x3 → (σ.2.1 15 (x3 : Int32).toNatClampNeg) = 2 → ¬ x2 = 0 → Tn G T w mX2_isMissing 60 [(0, .ref T), (1, .int x1), (2, .int 1), (3, .int x3), (4, .int 0)] [] σ Q) {Q4 : Int32 → TW → Prop} (e4 : ¬ ((8 * x1) + (σ.2.1 14 (x1 : Int32).toNatClampNeg)) ≤ x3 → (σ.2.1 15 (x3 : Int32).toNatClampNeg) = 2 → x2 = 0 → Tvi G T w mX2_find (.ref T :: [.int 1, .int (σ.2.1 16 (x3 : Int32).toNatClampNeg)]) σ Q4) (k4 : ¬ ((8 * x1) + (σ.2.1 14 (x1 : Int32).toNatClampNeg)) ≤ x3 → (σ.2.1 15 (x3 : Int32).toNatClampNeg) = 2 → x2 = 0 → ∀ (y4 : Int32) σ4, Q4 y4 σ4 → Tn G T w mX2_isMissing 47 [(0, .ref T), (1, .int x1), (3, .int x3)] [.int y4] σ4 Q) : Tn G T w mX2_isMissing 7 [(0, .ref T), (1, .int x1), (2, .int x2), (3, .int x3)] [] σ Q := by
  refine p_iload_n 6 8 3 rfl rfl rfl ?_
  refine p_bipush 7 10 rfl rfl cb_8 ?_
  refine p_iload_n 8 11 1 rfl rfl rfl ?_
  refine p_imul 9 12 rfl rfl ?_
  refine p_aload_n 10 13 0 rfl rfl rfl ?_
  refine t_geti (v := .ref (T + 13)) fl_X2_47 11 16 rfl rfl rfl ?_
  refine p_iload_n 12 17 1 rfl rfl rfl ?_
  refine t_iald (d := 13) (f := 14) (v := (σ.2.1 14 (x1 : Int32).toNatClampNeg)) 13 18 rfl rfl td_13 rfl tf_14 b1 rfl ?_
  refine p_iadd 14 19 rfl rfl ?_
  refine p_icmp_ge 15 22 124 rfl rfl rfl (fun c1 => ?_) (fun c1 => ?_)
  · refine p_iload_n 74 125 2 rfl rfl rfl ?_
    exact t_iret 75 rfl rfl (b2 c1) (k1 c1)
  · refine p_aload_n 16 23 0 rfl rfl rfl ?_
    refine t_geti (v := .ref (T + 14)) fl_X2_50 17 26 rfl rfl rfl ?_
    refine p_iload_n 18 27 3 rfl rfl rfl ?_
    refine t_iald (d := 14) (f := 15) (v := (σ.2.1 15 (x3 : Int32).toNatClampNeg)) 19 28 rfl rfl td_14 rfl tf_15 (b3 c1) rfl ?_
    refine p_iconst 20 29 rfl rfl ci_2 ?_
    refine p_icmp_ne 21 32 57 rfl rfl rfl (fun c2 => ?_) (fun c2 => ?_)
    · refine p_iconst 37 58 rfl rfl ci_0 ?_
      refine p_istore (lv' := [(4, .int 0), (0, .ref T), (1, .int x1), (2, .int x2), (3, .int x3)]) 38 60 rfl rfl (Nat.le_of_ble_eq_true rfl) rfl ?_
      exact p_sub [1, 2, 3, 4, 0] rfl (k2 c1 c2)
    · refine p_iload_n 22 33 2 rfl rfl rfl ?_
      refine p_if_ne 23 36 51 rfl rfl rfl (fun c3 => ?_) (fun c3 => ?_)
      · refine p_iconst 33 52 rfl rfl ci_1 ?_
        refine p_goto 34 56 rfl rfl ?_
        refine p_istore_n (lv' := [(2, .int 1), (0, .ref T), (1, .int x1), (3, .int x3)]) 36 57 rfl rfl (Nat.le_of_ble_eq_true rfl) rfl ?_
        refine p_iconst 37 58 rfl rfl ci_0 ?_
        refine p_istore (lv' := [(4, .int 0), (2, .int 1), (0, .ref T), (1, .int x1), (3, .int x3)]) 38 60 rfl rfl (Nat.le_of_ble_eq_true rfl) rfl ?_
        exact p_sub [2, 3, 1, 4, 0] rfl (k3 c1 c2 c3)
      · refine p_aload_n 24 37 0 rfl rfl rfl ?_
        refine p_iconst 25 38 rfl rfl ci_1 ?_
        refine p_aload_n 26 39 0 rfl rfl rfl ?_
        refine t_geti (v := .ref (T + 15)) fl_X2_53 27 42 rfl rfl rfl ?_
        refine p_iload_n 28 43 3 rfl rfl rfl ?_
        refine t_iald (d := 15) (f := 16) (v := (σ.2.1 16 (x3 : Int32).toNatClampNeg)) 29 44 rfl rfl td_15 rfl tf_16 (b3 c1) rfl ?_
        exact t_cVi lk_X2_143 30 47 rfl rfl (by decide) [.int 1, .int (σ.2.1 16 (x3 : Int32).toNatClampNeg)] rfl rfl (Nat.le_of_ble_eq_true rfl) (Nat.le_of_ble_eq_true rfl) (e4 c1 c2 c3) (fun x σ1 h => p_sub [0, 1, 3] rfl (k4 c1 c2 c3 x σ1 h))
theorem b_isMissing_47 {G : Gm} {T : Nat} {w : Wd} {σ : TW} {Q : Option Value → TW → Prop} {x1 : Int32} {x3 : Int32} {s0 : Int32} (k1 : ¬ s0 = (-1) → Tn G T w mX2_isMissing 60 [(0, .ref T), (1, .int x1), (2, .int 0), (3, .int x3), (4, .int 0)] [] σ Q) (k2 : s0 = (-1) → Tn G T w mX2_isMissing 60 [(0, .ref T), (1, .int x1), (2, .int 1), (3, .int x3), (4, .int 0)] [] σ Q) : Tn G T w mX2_isMissing 47 [(0, .ref T), (1, .int x1), (3, .int x3)] [.int s0] σ Q := by
  refine p_iconst 31 48 rfl rfl ci_m1 ?_
  refine p_icmp_ne 32 51 55 rfl rfl rfl (fun c1 => ?_) (fun c1 => ?_)
  · refine p_iconst 35 56 rfl rfl ci_0 ?_
    refine p_istore_n (lv' := [(2, .int 0), (0, .ref T), (1, .int x1), (3, .int x3)]) 36 57 rfl rfl (Nat.le_of_ble_eq_true rfl) rfl ?_
    refine p_iconst 37 58 rfl rfl ci_0 ?_
    refine p_istore (lv' := [(4, .int 0), (2, .int 0), (0, .ref T), (1, .int x1), (3, .int x3)]) 38 60 rfl rfl (Nat.le_of_ble_eq_true rfl) rfl ?_
    exact p_sub [2, 3, 1, 4, 0] rfl (k1 c1)
  · refine p_iconst 33 52 rfl rfl ci_1 ?_
    refine p_goto 34 56 rfl rfl ?_
    refine p_istore_n (lv' := [(2, .int 1), (0, .ref T), (1, .int x1), (3, .int x3)]) 36 57 rfl rfl (Nat.le_of_ble_eq_true rfl) rfl ?_
    refine p_iconst 37 58 rfl rfl ci_0 ?_
    refine p_istore (lv' := [(4, .int 0), (2, .int 1), (0, .ref T), (1, .int x1), (3, .int x3)]) 38 60 rfl rfl (Nat.le_of_ble_eq_true rfl) rfl ?_
    exact p_sub [2, 3, 1, 4, 0] rfl (k2 c1)
theorem b_isMissing_60 {G : Gm} {T : Nat} {w : Wd} {σ : TW} {Q : Option Value → TW → Prop} {x1 : Int32} {x2 : Int32} {x3 : Int32} {x4 : Int32} (b1 : vp_in x3 960) (k1 : (σ.2.1 16 (x3 : Int32).toNatClampNeg) ≤ x4 → Tn G T w mX2_isMissing 7 [(0, .ref T), (1, .int x1), (2, .int x2), (3, .int (x3 + 1))] [] σ Q) (k2 : ¬ (σ.2.1 16 (x3 : Int32).toNatClampNeg) ≤ x4 → ¬ (σ.2.1 15 (x3 : Int32).toNatClampNeg) = 4 → Tn G T w mX2_isMissing 7 [(0, .ref T), (1, .int x1), (2, .int x2), (3, .int (x3 + 1))] [] σ Q) (k3 : ¬ (σ.2.1 16 (x3 : Int32).toNatClampNeg) ≤ x4 → (σ.2.1 15 (x3 : Int32).toNatClampNeg) = 4 → ¬ x2 = 0 → Tn G T w mX2_isMissing 60 [(0, .ref T), (1, .int x1), (2, .int 1), (3, .int x3), (4, .int (x4 + 1))] [] σ Q) (b2 : ¬ (σ.2.1 16 (x3 : Int32).toNatClampNeg) ≤ x4 → (σ.2.1 15 (x3 : Int32).toNatClampNeg) = 4 → x2 = 0 → vp_in ((20 * x3) + x4) 19200) {Q4 : Int32 → TW → Prop} (e4 : ¬ (σ.2.1 16 (x3 : Int32).toNatClampNeg) ≤ x4 → (σ.2.1 15 (x3 : Int32).toNatClampNeg) = 4 → x2 = 0 → Tvi G T w mX2_find (.ref T :: [.int 1, .int (σ.2.1 17 (((20 * x3) + x4) : Int32).toNatClampNeg)]) σ Q4) (k4 : ¬ (σ.2.1 16 (x3 : Int32).toNatClampNeg) ≤ x4 → (σ.2.1 15 (x3 : Int32).toNatClampNeg) = 4 → x2 = 0 → ∀ (y4 : Int32) σ4, Q4 y4 σ4 → Tn G T w mX2_isMissing 102 [(0, .ref T), (1, .int x1), (3, .int x3), (4, .int x4)] [.int y4] σ4 Q) : Tn G T w mX2_isMissing 60 [(0, .ref T), (1, .int x1), (2, .int x2), (3, .int x3), (4, .int x4)] [] σ Q := by
  refine p_iload 39 62 4 rfl rfl rfl ?_
  refine p_aload_n 40 63 0 rfl rfl rfl ?_
  refine t_geti (v := .ref (T + 15)) fl_X2_53 41 66 rfl rfl rfl ?_
  refine p_iload_n 42 67 3 rfl rfl rfl ?_
  refine t_iald (d := 15) (f := 16) (v := (σ.2.1 16 (x3 : Int32).toNatClampNeg)) 43 68 rfl rfl td_15 rfl tf_16 b1 rfl ?_
  refine p_icmp_ge 44 71 118 rfl rfl rfl (fun c1 => ?_) (fun c1 => ?_)
  · refine p_iinc (v := (x3 + 1)) (lv' := [(3, .int (x3 + 1)), (0, .ref T), (1, .int x1), (2, .int x2), (4, .int x4)]) 72 121 3 rfl rfl rfl (congrArg (fun z => x3 + z) ci_1) (Nat.le_of_ble_eq_true rfl) rfl ?_
    refine p_goto 73 7 rfl rfl ?_
    exact p_sub [1, 2, 3, 0] rfl (k1 c1)
  · refine p_aload_n 45 72 0 rfl rfl rfl ?_
    refine t_geti (v := .ref (T + 14)) fl_X2_50 46 75 rfl rfl rfl ?_
    refine p_iload_n 47 76 3 rfl rfl rfl ?_
    refine t_iald (d := 14) (f := 15) (v := (σ.2.1 15 (x3 : Int32).toNatClampNeg)) 48 77 rfl rfl td_14 rfl tf_15 b1 rfl ?_
    refine p_iconst 49 78 rfl rfl ci_4 ?_
    refine p_icmp_ne 50 81 118 rfl rfl rfl (fun c2 => ?_) (fun c2 => ?_)
    · refine p_iinc (v := (x3 + 1)) (lv' := [(3, .int (x3 + 1)), (0, .ref T), (1, .int x1), (2, .int x2), (4, .int x4)]) 72 121 3 rfl rfl rfl (congrArg (fun z => x3 + z) ci_1) (Nat.le_of_ble_eq_true rfl) rfl ?_
      refine p_goto 73 7 rfl rfl ?_
      exact p_sub [1, 2, 3, 0] rfl (k2 c1 c2)
    · refine p_iload_n 51 82 2 rfl rfl rfl ?_
      refine p_if_ne 52 85 106 rfl rfl rfl (fun c3 => ?_) (fun c3 => ?_)
      · refine p_iconst 66 107 rfl rfl ci_1 ?_
        refine p_goto 67 111 rfl rfl ?_
        refine p_istore_n (lv' := [(2, .int 1), (0, .ref T), (1, .int x1), (3, .int x3), (4, .int x4)]) 69 112 rfl rfl (Nat.le_of_ble_eq_true rfl) rfl ?_
        refine p_iinc (v := (x4 + 1)) (lv' := [(4, .int (x4 + 1)), (2, .int 1), (0, .ref T), (1, .int x1), (3, .int x3)]) 70 115 4 rfl rfl rfl (congrArg (fun z => x4 + z) ci_1) (Nat.le_of_ble_eq_true rfl) rfl ?_
        refine p_goto 71 60 rfl rfl ?_
        exact p_sub [2, 3, 1, 4, 0] rfl (k3 c1 c2 c3)
      · refine p_aload_n 53 86 0 rfl rfl rfl ?_
        refine p_iconst 54 87 rfl rfl ci_1 ?_
        refine p_aload_n 55 88 0 rfl rfl rfl ?_
        refine t_geti (v := .ref (T + 16)) fl_X2_56 56 91 rfl rfl rfl ?_
        refine p_bipush 57 93 rfl rfl cb_20 ?_
        refine p_iload_n 58 94 3 rfl rfl rfl ?_
        refine p_imul 59 95 rfl rfl ?_
        refine p_iload 60 97 4 rfl rfl rfl ?_
        refine p_iadd 61 98 rfl rfl ?_
        refine t_iald (d := 16) (f := 17) (v := (σ.2.1 17 (((20 * x3) + x4) : Int32).toNatClampNeg)) 62 99 rfl rfl td_16 rfl tf_17 (b2 c1 c2 c3) rfl ?_
        exact t_cVi lk_X2_143 63 102 rfl rfl (by decide) [.int 1, .int (σ.2.1 17 (((20 * x3) + x4) : Int32).toNatClampNeg)] rfl rfl (Nat.le_of_ble_eq_true rfl) (Nat.le_of_ble_eq_true rfl) (e4 c1 c2 c3) (fun x σ1 h => p_sub [0, 1, 3, 4] rfl (k4 c1 c2 c3 x σ1 h))
theorem b_isMissing_102 {G : Gm} {T : Nat} {w : Wd} {σ : TW} {Q : Option Value → TW → Prop} {x1 : Int32} {x3 : Int32} {x4 : Int32} {s0 : Int32} (k1 : ¬ s0 = (-1) → Tn G T w mX2_isMissing 60 [(0, .ref T), (1, .int x1), (2, .int 0), (3, .int x3), (4, .int (x4 + 1))] [] σ Q) (k2 : s0 = (-1) → Tn G T w mX2_isMissing 60 [(0, .ref T), (1, .int x1), (2, .int 1), (3, .int x3), (4, .int (x4 + 1))] [] σ Q) : Tn G T w mX2_isMissing 102 [(0, .ref T), (1, .int x1), (3, .int x3), (4, .int x4)] [.int s0] σ Q := by
  refine p_iconst 64 103 rfl rfl ci_m1 ?_
  refine p_icmp_ne 65 106 110 rfl rfl rfl (fun c1 => ?_) (fun c1 => ?_)
  · refine p_iconst 68 111 rfl rfl ci_0 ?_
    refine p_istore_n (lv' := [(2, .int 0), (0, .ref T), (1, .int x1), (3, .int x3), (4, .int x4)]) 69 112 rfl rfl (Nat.le_of_ble_eq_true rfl) rfl ?_
    refine p_iinc (v := (x4 + 1)) (lv' := [(4, .int (x4 + 1)), (2, .int 0), (0, .ref T), (1, .int x1), (3, .int x3)]) 70 115 4 rfl rfl rfl (congrArg (fun z => x4 + z) ci_1) (Nat.le_of_ble_eq_true rfl) rfl ?_
    refine p_goto 71 60 rfl rfl ?_
    exact p_sub [2, 3, 1, 4, 0] rfl (k1 c1)
  · refine p_iconst 66 107 rfl rfl ci_1 ?_
    refine p_goto 67 111 rfl rfl ?_
    refine p_istore_n (lv' := [(2, .int 1), (0, .ref T), (1, .int x1), (3, .int x3), (4, .int x4)]) 69 112 rfl rfl (Nat.le_of_ble_eq_true rfl) rfl ?_
    refine p_iinc (v := (x4 + 1)) (lv' := [(4, .int (x4 + 1)), (2, .int 1), (0, .ref T), (1, .int x1), (3, .int x3)]) 70 115 4 rfl rfl rfl (congrArg (fun z => x4 + z) ci_1) (Nat.le_of_ble_eq_true rfl) rfl ?_
    refine p_goto 71 60 rfl rfl ?_
    exact p_sub [2, 3, 1, 4, 0] rfl (k2 c1)
theorem b_copy_0 {G : Gm} {T : Nat} {w : Wd} {σ : TW} {Q : Option Value → TW → Prop} {x1 : Int32} {x2 : Int32} (b1 : vp_in x2 120) (b2 : vp_in x1 120) (k1 : Tn G T w mX2_copy 38 [(0, .ref T), (1, .int x1), (2, .int x2), (3, .int 0)] [] (tsA (tsA (tsA σ 11 (x1 : Int32).toNatClampNeg (σ.2.1 11 (x2 : Int32).toNatClampNeg)) 12 (x1 : Int32).toNatClampNeg (σ.2.1 12 (x2 : Int32).toNatClampNeg)) 14 (x1 : Int32).toNatClampNeg (σ.2.1 14 (x2 : Int32).toNatClampNeg)) Q) : Tn G T w mX2_copy 0 [(0, .ref T), (1, .int x1), (2, .int x2)] [] σ Q := by
  refine p_aload_n 0 1 0 rfl rfl rfl ?_
  refine t_geti (v := .ref (T + 10)) fl_X2_38 1 4 rfl rfl rfl ?_
  refine p_iload_n 2 5 1 rfl rfl rfl ?_
  refine p_aload_n 3 6 0 rfl rfl rfl ?_
  refine t_geti (v := .ref (T + 10)) fl_X2_38 4 9 rfl rfl rfl ?_
  refine p_iload_n 5 10 2 rfl rfl rfl ?_
  refine t_iald (d := 10) (f := 11) (v := (σ.2.1 11 (x2 : Int32).toNatClampNeg)) 6 11 rfl rfl td_10 rfl tf_11 b1 rfl ?_
  refine t_iast (d := 10) (f := 11) 7 12 rfl rfl td_10 rfl tf_11 b2 ?_
  refine p_aload_n 8 13 0 rfl rfl rfl ?_
  refine t_geti (v := .ref (T + 11)) fl_X2_41 9 16 rfl rfl rfl ?_
  refine p_iload_n 10 17 1 rfl rfl rfl ?_
  refine p_aload_n 11 18 0 rfl rfl rfl ?_
  refine t_geti (v := .ref (T + 11)) fl_X2_41 12 21 rfl rfl rfl ?_
  refine p_iload_n 13 22 2 rfl rfl rfl ?_
  refine t_iald (d := 11) (f := 12) (v := (σ.2.1 12 (x2 : Int32).toNatClampNeg)) 14 23 rfl rfl td_11 rfl tf_12 b1 rfl ?_
  refine t_iast (d := 11) (f := 12) 15 24 rfl rfl td_11 rfl tf_12 b2 ?_
  refine p_aload_n 16 25 0 rfl rfl rfl ?_
  refine t_geti (v := .ref (T + 13)) fl_X2_47 17 28 rfl rfl rfl ?_
  refine p_iload_n 18 29 1 rfl rfl rfl ?_
  refine p_aload_n 19 30 0 rfl rfl rfl ?_
  refine t_geti (v := .ref (T + 13)) fl_X2_47 20 33 rfl rfl rfl ?_
  refine p_iload_n 21 34 2 rfl rfl rfl ?_
  refine t_iald (d := 13) (f := 14) (v := (σ.2.1 14 (x2 : Int32).toNatClampNeg)) 22 35 rfl rfl td_13 rfl tf_14 b1 rfl ?_
  refine t_iast (d := 13) (f := 14) 23 36 rfl rfl td_13 rfl tf_14 b2 ?_
  refine p_iconst 24 37 rfl rfl ci_0 ?_
  refine p_istore_n (lv' := [(3, .int 0), (0, .ref T), (1, .int x1), (2, .int x2)]) 25 38 rfl rfl (Nat.le_of_ble_eq_true rfl) rfl ?_
  exact p_sub [1, 2, 3, 0] rfl (k1 )
theorem b_copy_38 {G : Gm} {T : Nat} {w : Wd} {σ : TW} {Q : Option Value → TW → Prop} {x1 : Int32} {x2 : Int32} {x3 : Int32} (k1 : (8 : Int32) ≤ x3 → Tn G T w mX2_copy 118 [(0, .ref T), (1, .int x1), (2, .int x2), (3, .int 0)] [] σ Q) (b1 : ¬ (8 : Int32) ≤ x3 → vp_in ((8 * x2) + x3) 960) (b2 : ¬ (8 : Int32) ≤ x3 → vp_in ((8 * x1) + x3) 960) (k2 : ¬ (8 : Int32) ≤ x3 → Tn G T w mX2_copy 38 [(0, .ref T), (1, .int x1), (2, .int x2), (3, .int (x3 + 1))] [] (tsA (tsA (tsA σ 13 (((8 * x1) + x3) : Int32).toNatClampNeg (σ.2.1 13 (((8 * x2) + x3) : Int32).toNatClampNeg)) 15 (((8 * x1) + x3) : Int32).toNatClampNeg (σ.2.1 15 (((8 * x2) + x3) : Int32).toNatClampNeg)) 16 (((8 * x1) + x3) : Int32).toNatClampNeg (σ.2.1 16 (((8 * x2) + x3) : Int32).toNatClampNeg)) Q) : Tn G T w mX2_copy 38 [(0, .ref T), (1, .int x1), (2, .int x2), (3, .int x3)] [] σ Q := by
  refine p_iload_n 26 39 3 rfl rfl rfl ?_
  refine p_bipush 27 41 rfl rfl cb_8 ?_
  refine p_icmp_ge 28 44 116 rfl rfl rfl (fun c1 => ?_) (fun c1 => ?_)
  · refine p_iconst 79 117 rfl rfl ci_0 ?_
    refine p_istore_n (lv' := [(3, .int 0), (0, .ref T), (1, .int x1), (2, .int x2)]) 80 118 rfl rfl (Nat.le_of_ble_eq_true rfl) rfl ?_
    exact p_sub [1, 2, 3, 0] rfl (k1 c1)
  · refine p_aload_n 29 45 0 rfl rfl rfl ?_
    refine t_geti (v := .ref (T + 12)) fl_X2_44 30 48 rfl rfl rfl ?_
    refine p_bipush 31 50 rfl rfl cb_8 ?_
    refine p_iload_n 32 51 1 rfl rfl rfl ?_
    refine p_imul 33 52 rfl rfl ?_
    refine p_iload_n 34 53 3 rfl rfl rfl ?_
    refine p_iadd 35 54 rfl rfl ?_
    refine p_aload_n 36 55 0 rfl rfl rfl ?_
    refine t_geti (v := .ref (T + 12)) fl_X2_44 37 58 rfl rfl rfl ?_
    refine p_bipush 38 60 rfl rfl cb_8 ?_
    refine p_iload_n 39 61 2 rfl rfl rfl ?_
    refine p_imul 40 62 rfl rfl ?_
    refine p_iload_n 41 63 3 rfl rfl rfl ?_
    refine p_iadd 42 64 rfl rfl ?_
    refine t_iald (d := 12) (f := 13) (v := (σ.2.1 13 (((8 * x2) + x3) : Int32).toNatClampNeg)) 43 65 rfl rfl td_12 rfl tf_13 (b1 c1) rfl ?_
    refine t_iast (d := 12) (f := 13) 44 66 rfl rfl td_12 rfl tf_13 (b2 c1) ?_
    refine p_aload_n 45 67 0 rfl rfl rfl ?_
    refine t_geti (v := .ref (T + 14)) fl_X2_50 46 70 rfl rfl rfl ?_
    refine p_bipush 47 72 rfl rfl cb_8 ?_
    refine p_iload_n 48 73 1 rfl rfl rfl ?_
    refine p_imul 49 74 rfl rfl ?_
    refine p_iload_n 50 75 3 rfl rfl rfl ?_
    refine p_iadd 51 76 rfl rfl ?_
    refine p_aload_n 52 77 0 rfl rfl rfl ?_
    refine t_geti (v := .ref (T + 14)) fl_X2_50 53 80 rfl rfl rfl ?_
    refine p_bipush 54 82 rfl rfl cb_8 ?_
    refine p_iload_n 55 83 2 rfl rfl rfl ?_
    refine p_imul 56 84 rfl rfl ?_
    refine p_iload_n 57 85 3 rfl rfl rfl ?_
    refine p_iadd 58 86 rfl rfl ?_
    refine t_iald (d := 14) (f := 15) (v := (σ.2.1 15 (((8 * x2) + x3) : Int32).toNatClampNeg)) 59 87 rfl rfl td_14 rfl tf_15 (b1 c1) rfl ?_
    refine t_iast (d := 14) (f := 15) 60 88 rfl rfl td_14 rfl tf_15 (b2 c1) ?_
    refine p_aload_n 61 89 0 rfl rfl rfl ?_
    refine t_geti (v := .ref (T + 15)) fl_X2_53 62 92 rfl rfl rfl ?_
    refine p_bipush 63 94 rfl rfl cb_8 ?_
    refine p_iload_n 64 95 1 rfl rfl rfl ?_
    refine p_imul 65 96 rfl rfl ?_
    refine p_iload_n 66 97 3 rfl rfl rfl ?_
    refine p_iadd 67 98 rfl rfl ?_
    refine p_aload_n 68 99 0 rfl rfl rfl ?_
    refine t_geti (v := .ref (T + 15)) fl_X2_53 69 102 rfl rfl rfl ?_
    refine p_bipush 70 104 rfl rfl cb_8 ?_
    refine p_iload_n 71 105 2 rfl rfl rfl ?_
    refine p_imul 72 106 rfl rfl ?_
    refine p_iload_n 73 107 3 rfl rfl rfl ?_
    refine p_iadd 74 108 rfl rfl ?_
    refine t_iald (d := 15) (f := 16) (v := (σ.2.1 16 (((8 * x2) + x3) : Int32).toNatClampNeg)) 75 109 rfl rfl td_15 rfl tf_16 (b1 c1) rfl ?_
    refine t_iast (d := 15) (f := 16) 76 110 rfl rfl td_15 rfl tf_16 (b2 c1) ?_
    refine p_iinc (v := (x3 + 1)) (lv' := [(3, .int (x3 + 1)), (0, .ref T), (1, .int x1), (2, .int x2)]) 77 113 3 rfl rfl rfl (congrArg (fun z => x3 + z) ci_1) (Nat.le_of_ble_eq_true rfl) rfl ?_
    refine p_goto 78 38 rfl rfl ?_
    exact p_sub [1, 2, 3, 0] rfl (k2 c1)
theorem b_copy_118 {G : Gm} {T : Nat} {w : Wd} {σ : TW} {Q : Option Value → TW → Prop} {x1 : Int32} {x2 : Int32} {x3 : Int32} (k1 : (160 : Int32) ≤ x3 → Q none σ) (b1 : ¬ (160 : Int32) ≤ x3 → vp_in ((160 * x2) + x3) 19200) (b2 : ¬ (160 : Int32) ≤ x3 → vp_in ((160 * x1) + x3) 19200) (k2 : ¬ (160 : Int32) ≤ x3 → Tn G T w mX2_copy 118 [(0, .ref T), (1, .int x1), (2, .int x2), (3, .int (x3 + 1))] [] (tsA σ 17 (((160 * x1) + x3) : Int32).toNatClampNeg (σ.2.1 17 (((160 * x2) + x3) : Int32).toNatClampNeg)) Q) : Tn G T w mX2_copy 118 [(0, .ref T), (1, .int x1), (2, .int x2), (3, .int x3)] [] σ Q := by
  refine p_iload_n 81 119 3 rfl rfl rfl ?_
  refine p_sipush 82 122 rfl rfl cs_160 ?_
  refine p_icmp_ge 83 125 155 rfl rfl rfl (fun c1 => ?_) (fun c1 => ?_)
  · exact t_vret 102 rfl rfl (k1 c1)
  · refine p_aload_n 84 126 0 rfl rfl rfl ?_
    refine t_geti (v := .ref (T + 16)) fl_X2_56 85 129 rfl rfl rfl ?_
    refine p_sipush 86 132 rfl rfl cs_160 ?_
    refine p_iload_n 87 133 1 rfl rfl rfl ?_
    refine p_imul 88 134 rfl rfl ?_
    refine p_iload_n 89 135 3 rfl rfl rfl ?_
    refine p_iadd 90 136 rfl rfl ?_
    refine p_aload_n 91 137 0 rfl rfl rfl ?_
    refine t_geti (v := .ref (T + 16)) fl_X2_56 92 140 rfl rfl rfl ?_
    refine p_sipush 93 143 rfl rfl cs_160 ?_
    refine p_iload_n 94 144 2 rfl rfl rfl ?_
    refine p_imul 95 145 rfl rfl ?_
    refine p_iload_n 96 146 3 rfl rfl rfl ?_
    refine p_iadd 97 147 rfl rfl ?_
    refine t_iald (d := 16) (f := 17) (v := (σ.2.1 17 (((160 * x2) + x3) : Int32).toNatClampNeg)) 98 148 rfl rfl td_16 rfl tf_17 (b1 c1) rfl ?_
    refine t_iast (d := 16) (f := 17) 99 149 rfl rfl td_16 rfl tf_17 (b2 c1) ?_
    refine p_iinc (v := (x3 + 1)) (lv' := [(3, .int (x3 + 1)), (0, .ref T), (1, .int x1), (2, .int x2)]) 100 152 3 rfl rfl rfl (congrArg (fun z => x3 + z) ci_1) (Nat.le_of_ble_eq_true rfl) rfl ?_
    refine p_goto 101 118 rfl rfl ?_
    exact p_sub [1, 2, 3, 0] rfl (k2 c1)
theorem b_write_0 {G : Gm} {T : Nat} {w : Wd} {σ : TW} {Q : Option Value → TW → Prop} (k1 : Tn G T w mX2_write 12 [(0, .ref T), (1, .int 0)] [] (tsI (tsI σ 0 0) 24 0) Q) : Tn G T w mX2_write 0 [(0, .ref T)] [] σ Q := by
  refine p_aload_n 0 1 0 rfl rfl rfl ?_
  refine p_iconst 1 2 rfl rfl ci_0 ?_
  refine t_puti fl_X2_69 2 5 rfl rfl rfl rfl (by decide) (tws_0 _ _ _) ?_
  refine p_aload_n 3 6 0 rfl rfl rfl ?_
  refine p_iconst 4 7 rfl rfl ci_0 ?_
  refine t_puti fl_X2_159 5 10 rfl rfl rfl rfl (by decide) (tws_24 _ _ _) ?_
  refine p_iconst 6 11 rfl rfl ci_0 ?_
  refine p_istore_n (lv' := [(1, .int 0), (0, .ref T)]) 7 12 rfl rfl (Nat.le_of_ble_eq_true rfl) rfl ?_
  exact p_sub [1, 0] rfl (k1 )
theorem b_write_12 {G : Gm} {T : Nat} {w : Wd} {σ : TW} {Q : Option Value → TW → Prop} {x1 : Int32} (b1 : vp_in 0 3) (k1 : (σ.2.1 10 (0 : Int32).toNatClampNeg) ≤ x1 → (σ.1 24) ≤ 1200 → Tn G T w mX2_write 154 [(0, .ref T), (1, .int 0)] [] σ Q) (k2 : (σ.2.1 10 (0 : Int32).toNatClampNeg) ≤ x1 → ¬ (σ.1 24) ≤ 1200 → Q (some (.int (-2))) σ) {Q3 : TW → Prop} (e3 : ¬ (σ.2.1 10 (0 : Int32).toNatClampNeg) ≤ x1 → Tvv G T w mX2_put (.ref T :: [.int 35]) σ Q3) (k3 : ¬ (σ.2.1 10 (0 : Int32).toNatClampNeg) ≤ x1 → ∀ σ3, Q3 σ3 → Tn G T w mX2_write 28 [(0, .ref T), (1, .int x1)] [] σ3 Q) : Tn G T w mX2_write 12 [(0, .ref T), (1, .int x1)] [] σ Q := by
  refine p_iload_n 8 13 1 rfl rfl rfl ?_
  refine p_aload_n 9 14 0 rfl rfl rfl ?_
  refine t_geti (v := .ref (T + 9)) fl_X2_35 10 17 rfl rfl rfl ?_
  refine p_iconst 11 18 rfl rfl ci_0 ?_
  refine t_iald (d := 9) (f := 10) (v := (σ.2.1 10 (0 : Int32).toNatClampNeg)) 12 19 rfl rfl td_9 rfl tf_10 b1 rfl ?_
  refine p_icmp_ge 13 22 139 rfl rfl rfl (fun c1 => ?_) (fun c1 => ?_)
  · refine p_aload_n 79 140 0 rfl rfl rfl ?_
    refine t_geti (v := .int (σ.1 24)) fl_X2_159 80 143 rfl rfl rfl ?_
    refine p_sipush 81 146 rfl rfl cs_1200 ?_
    refine p_icmp_le 82 149 152 rfl rfl rfl (fun c2 => ?_) (fun c2 => ?_)
    · refine p_iconst 85 153 rfl rfl ci_0 ?_
      refine p_istore_n (lv' := [(1, .int 0), (0, .ref T)]) 86 154 rfl rfl (Nat.le_of_ble_eq_true rfl) rfl ?_
      exact p_sub [1, 0] rfl (k1 c1 c2)
    · refine p_bipush 83 151 rfl rfl cb_m2 ?_
      exact t_iret 84 rfl rfl rfl (k2 c1 c2)
  · refine p_aload_n 14 23 0 rfl rfl rfl ?_
    refine p_bipush 15 25 rfl rfl cb_35 ?_
    exact t_cVv lk_X2_162 16 28 rfl rfl (by decide) [.int 35] rfl rfl (Nat.le_of_ble_eq_true rfl) (Nat.le_of_ble_eq_true rfl) (e3 c1) (fun σ1 h => k3 c1 σ1 h)
theorem b_write_28 {G : Gm} {T : Nat} {w : Wd} {σ : TW} {Q : Option Value → TW → Prop} {x1 : Int32} (b1 : vp_in x1 120) {Q1 : TW → Prop} (e1 : Tvv G T w mX2_putNumber (.ref T :: [.int (σ.2.1 11 (x1 : Int32).toNatClampNeg)]) σ Q1) (k1 : ∀ σ1, Q1 σ1 → Tn G T w mX2_write 38 [(0, .ref T), (1, .int x1)] [] σ1 Q) : Tn G T w mX2_write 28 [(0, .ref T), (1, .int x1)] [] σ Q := by
  refine p_aload_n 17 29 0 rfl rfl rfl ?_
  refine p_aload_n 18 30 0 rfl rfl rfl ?_
  refine t_geti (v := .ref (T + 10)) fl_X2_38 19 33 rfl rfl rfl ?_
  refine p_iload_n 20 34 1 rfl rfl rfl ?_
  refine t_iald (d := 10) (f := 11) (v := (σ.2.1 11 (x1 : Int32).toNatClampNeg)) 21 35 rfl rfl td_10 rfl tf_11 b1 rfl ?_
  exact t_cVv lk_X2_165 22 38 rfl rfl (by decide) [.int (σ.2.1 11 (x1 : Int32).toNatClampNeg)] rfl rfl (Nat.le_of_ble_eq_true rfl) (Nat.le_of_ble_eq_true rfl) (e1 ) (fun σ1 h => k1 σ1 h)
theorem b_write_38 {G : Gm} {T : Nat} {w : Wd} {σ : TW} {Q : Option Value → TW → Prop} {x1 : Int32} {Q1 : TW → Prop} (e1 : Tvv G T w mX2_put (.ref T :: [.int 61]) σ Q1) (k1 : ∀ σ1, Q1 σ1 → Tn G T w mX2_write 44 [(0, .ref T), (1, .int x1)] [] σ1 Q) : Tn G T w mX2_write 38 [(0, .ref T), (1, .int x1)] [] σ Q := by
  refine p_aload_n 23 39 0 rfl rfl rfl ?_
  refine p_bipush 24 41 rfl rfl cb_61 ?_
  exact t_cVv lk_X2_162 25 44 rfl rfl (by decide) [.int 61] rfl rfl (Nat.le_of_ble_eq_true rfl) (Nat.le_of_ble_eq_true rfl) (e1 ) (fun σ1 h => k1 σ1 h)
theorem b_write_44 {G : Gm} {T : Nat} {w : Wd} {σ : TW} {Q : Option Value → TW → Prop} {x1 : Int32} (k1 : Tn G T w mX2_write 46 [(0, .ref T), (1, .int x1), (2, .int 0)] [] σ Q) : Tn G T w mX2_write 44 [(0, .ref T), (1, .int x1)] [] σ Q := by
  refine p_iconst 26 45 rfl rfl ci_0 ?_
  refine p_istore_n (lv' := [(2, .int 0), (0, .ref T), (1, .int x1)]) 27 46 rfl rfl (Nat.le_of_ble_eq_true rfl) rfl ?_
  exact p_sub [1, 2, 0] rfl (k1 )
theorem b_write_46 {G : Gm} {T : Nat} {w : Wd} {σ : TW} {Q : Option Value → TW → Prop} {x1 : Int32} {x2 : Int32} (b1 : vp_in x1 120) {Q1 : TW → Prop} (e1 : (σ.2.1 12 (x1 : Int32).toNatClampNeg) ≤ x2 → Tvv G T w mX2_put (.ref T :: [.int 40]) σ Q1) (k1 : (σ.2.1 12 (x1 : Int32).toNatClampNeg) ≤ x2 → ∀ σ1, Q1 σ1 → Tn G T w mX2_write 83 [(0, .ref T), (1, .int x1)] [] σ1 Q) (b2 : ¬ (σ.2.1 12 (x1 : Int32).toNatClampNeg) ≤ x2 → vp_in ((8 * x1) + x2) 960) {Q2 : TW → Prop} (e2 : ¬ (σ.2.1 12 (x1 : Int32).toNatClampNeg) ≤ x2 → Tvv G T w mX2_put (.ref T :: [.int (σ.2.1 13 (((8 * x1) + x2) : Int32).toNatClampNeg)]) σ Q2) (k2 : ¬ (σ.2.1 12 (x1 : Int32).toNatClampNeg) ≤ x2 → ∀ σ2, Q2 σ2 → Tn G T w mX2_write 71 [(0, .ref T), (1, .int x1), (2, .int x2)] [] σ2 Q) : Tn G T w mX2_write 46 [(0, .ref T), (1, .int x1), (2, .int x2)] [] σ Q := by
  refine p_iload_n 28 47 2 rfl rfl rfl ?_
  refine p_aload_n 29 48 0 rfl rfl rfl ?_
  refine t_geti (v := .ref (T + 11)) fl_X2_41 30 51 rfl rfl rfl ?_
  refine p_iload_n 31 52 1 rfl rfl rfl ?_
  refine t_iald (d := 11) (f := 12) (v := (σ.2.1 12 (x1 : Int32).toNatClampNeg)) 32 53 rfl rfl td_11 rfl tf_12 b1 rfl ?_
  refine p_icmp_ge 33 56 77 rfl rfl rfl (fun c1 => ?_) (fun c1 => ?_)
  · refine p_aload_n 46 78 0 rfl rfl rfl ?_
    refine p_bipush 47 80 rfl rfl cb_40 ?_
    exact t_cVv lk_X2_162 48 83 rfl rfl (by decide) [.int 40] rfl rfl (Nat.le_of_ble_eq_true rfl) (Nat.le_of_ble_eq_true rfl) (e1 c1) (fun σ1 h => p_sub [0, 1] rfl (k1 c1 σ1 h))
  · refine p_aload_n 34 57 0 rfl rfl rfl ?_
    refine p_aload_n 35 58 0 rfl rfl rfl ?_
    refine t_geti (v := .ref (T + 12)) fl_X2_44 36 61 rfl rfl rfl ?_
    refine p_bipush 37 63 rfl rfl cb_8 ?_
    refine p_iload_n 38 64 1 rfl rfl rfl ?_
    refine p_imul 39 65 rfl rfl ?_
    refine p_iload_n 40 66 2 rfl rfl rfl ?_
    refine p_iadd 41 67 rfl rfl ?_
    refine t_iald (d := 12) (f := 13) (v := (σ.2.1 13 (((8 * x1) + x2) : Int32).toNatClampNeg)) 42 68 rfl rfl td_12 rfl tf_13 (b2 c1) rfl ?_
    exact t_cVv lk_X2_162 43 71 rfl rfl (by decide) [.int (σ.2.1 13 (((8 * x1) + x2) : Int32).toNatClampNeg)] rfl rfl (Nat.le_of_ble_eq_true rfl) (Nat.le_of_ble_eq_true rfl) (e2 c1) (fun σ1 h => k2 c1 σ1 h)
theorem b_write_71 {G : Gm} {T : Nat} {w : Wd} {σ : TW} {Q : Option Value → TW → Prop} {x1 : Int32} {x2 : Int32} (k1 : Tn G T w mX2_write 46 [(0, .ref T), (1, .int x1), (2, .int (x2 + 1))] [] σ Q) : Tn G T w mX2_write 71 [(0, .ref T), (1, .int x1), (2, .int x2)] [] σ Q := by
  refine p_iinc (v := (x2 + 1)) (lv' := [(2, .int (x2 + 1)), (0, .ref T), (1, .int x1)]) 44 74 2 rfl rfl rfl (congrArg (fun z => x2 + z) ci_1) (Nat.le_of_ble_eq_true rfl) rfl ?_
  refine p_goto 45 46 rfl rfl ?_
  exact p_sub [1, 2, 0] rfl (k1 )
theorem b_write_83 {G : Gm} {T : Nat} {w : Wd} {σ : TW} {Q : Option Value → TW → Prop} {x1 : Int32} (k1 : Tn G T w mX2_write 85 [(0, .ref T), (1, .int x1), (2, .int 0)] [] σ Q) : Tn G T w mX2_write 83 [(0, .ref T), (1, .int x1)] [] σ Q := by
  refine p_iconst 49 84 rfl rfl ci_0 ?_
  refine p_istore_n (lv' := [(2, .int 0), (0, .ref T), (1, .int x1)]) 50 85 rfl rfl (Nat.le_of_ble_eq_true rfl) rfl ?_
  exact p_sub [1, 2, 0] rfl (k1 )
theorem b_write_85 {G : Gm} {T : Nat} {w : Wd} {σ : TW} {Q : Option Value → TW → Prop} {x1 : Int32} {x2 : Int32} (b1 : vp_in x1 120) {Q1 : TW → Prop} (e1 : (σ.2.1 14 (x1 : Int32).toNatClampNeg) ≤ x2 → Tvv G T w mX2_put (.ref T :: [.int 41]) σ Q1) (k1 : (σ.2.1 14 (x1 : Int32).toNatClampNeg) ≤ x2 → ∀ σ1, Q1 σ1 → Tn G T w mX2_write 127 [(0, .ref T), (1, .int x1)] [] σ1 Q) (k2 : ¬ (σ.2.1 14 (x1 : Int32).toNatClampNeg) ≤ x2 → x2 ≤ 0 → Tn G T w mX2_write 105 [(0, .ref T), (1, .int x1), (2, .int x2)] [] σ Q) {Q3 : TW → Prop} (e3 : ¬ (σ.2.1 14 (x1 : Int32).toNatClampNeg) ≤ x2 → ¬ x2 ≤ 0 → Tvv G T w mX2_put (.ref T :: [.int 44]) σ Q3) (k3 : ¬ (σ.2.1 14 (x1 : Int32).toNatClampNeg) ≤ x2 → ¬ x2 ≤ 0 → ∀ σ3, Q3 σ3 → Tn G T w mX2_write 105 [(0, .ref T), (1, .int x1), (2, .int x2)] [] σ3 Q) : Tn G T w mX2_write 85 [(0, .ref T), (1, .int x1), (2, .int x2)] [] σ Q := by
  refine p_iload_n 51 86 2 rfl rfl rfl ?_
  refine p_aload_n 52 87 0 rfl rfl rfl ?_
  refine t_geti (v := .ref (T + 13)) fl_X2_47 53 90 rfl rfl rfl ?_
  refine p_iload_n 54 91 1 rfl rfl rfl ?_
  refine t_iald (d := 13) (f := 14) (v := (σ.2.1 14 (x1 : Int32).toNatClampNeg)) 55 92 rfl rfl td_13 rfl tf_14 b1 rfl ?_
  refine p_icmp_ge 56 95 121 rfl rfl rfl (fun c1 => ?_) (fun c1 => ?_)
  · refine p_aload_n 71 122 0 rfl rfl rfl ?_
    refine p_bipush 72 124 rfl rfl cb_41 ?_
    exact t_cVv lk_X2_162 73 127 rfl rfl (by decide) [.int 41] rfl rfl (Nat.le_of_ble_eq_true rfl) (Nat.le_of_ble_eq_true rfl) (e1 c1) (fun σ1 h => p_sub [0, 1] rfl (k1 c1 σ1 h))
  · refine p_iload_n 57 96 2 rfl rfl rfl ?_
    refine p_if_le 58 99 105 rfl rfl rfl (fun c2 => ?_) (fun c2 => ?_)
    · exact k2 c1 c2
    · refine p_aload_n 59 100 0 rfl rfl rfl ?_
      refine p_bipush 60 102 rfl rfl cb_44 ?_
      exact t_cVv lk_X2_162 61 105 rfl rfl (by decide) [.int 44] rfl rfl (Nat.le_of_ble_eq_true rfl) (Nat.le_of_ble_eq_true rfl) (e3 c1 c2) (fun σ1 h => k3 c1 c2 σ1 h)
theorem b_write_105 {G : Gm} {T : Nat} {w : Wd} {σ : TW} {Q : Option Value → TW → Prop} {x1 : Int32} {x2 : Int32} {Q1 : TW → Prop} (e1 : Tvv G T w mX2_putArgument (.ref T :: [.int ((8 * x1) + x2)]) σ Q1) (k1 : ∀ σ1, Q1 σ1 → Tn G T w mX2_write 115 [(0, .ref T), (1, .int x1), (2, .int x2)] [] σ1 Q) : Tn G T w mX2_write 105 [(0, .ref T), (1, .int x1), (2, .int x2)] [] σ Q := by
  refine p_aload_n 62 106 0 rfl rfl rfl ?_
  refine p_bipush 63 108 rfl rfl cb_8 ?_
  refine p_iload_n 64 109 1 rfl rfl rfl ?_
  refine p_imul 65 110 rfl rfl ?_
  refine p_iload_n 66 111 2 rfl rfl rfl ?_
  refine p_iadd 67 112 rfl rfl ?_
  exact t_cVv lk_X2_168 68 115 rfl rfl (by decide) [.int ((8 * x1) + x2)] rfl rfl (Nat.le_of_ble_eq_true rfl) (Nat.le_of_ble_eq_true rfl) (e1 ) (fun σ1 h => k1 σ1 h)
theorem b_write_115 {G : Gm} {T : Nat} {w : Wd} {σ : TW} {Q : Option Value → TW → Prop} {x1 : Int32} {x2 : Int32} (k1 : Tn G T w mX2_write 85 [(0, .ref T), (1, .int x1), (2, .int (x2 + 1))] [] σ Q) : Tn G T w mX2_write 115 [(0, .ref T), (1, .int x1), (2, .int x2)] [] σ Q := by
  refine p_iinc (v := (x2 + 1)) (lv' := [(2, .int (x2 + 1)), (0, .ref T), (1, .int x1)]) 69 118 2 rfl rfl rfl (congrArg (fun z => x2 + z) ci_1) (Nat.le_of_ble_eq_true rfl) rfl ?_
  refine p_goto 70 85 rfl rfl ?_
  exact p_sub [1, 2, 0] rfl (k1 )
theorem b_write_127 {G : Gm} {T : Nat} {w : Wd} {σ : TW} {Q : Option Value → TW → Prop} {x1 : Int32} {Q1 : TW → Prop} (e1 : Tvv G T w mX2_put (.ref T :: [.int 59]) σ Q1) (k1 : ∀ σ1, Q1 σ1 → Tn G T w mX2_write 133 [(0, .ref T), (1, .int x1)] [] σ1 Q) : Tn G T w mX2_write 127 [(0, .ref T), (1, .int x1)] [] σ Q := by
  refine p_aload_n 74 128 0 rfl rfl rfl ?_
  refine p_bipush 75 130 rfl rfl cb_59 ?_
  exact t_cVv lk_X2_162 76 133 rfl rfl (by decide) [.int 59] rfl rfl (Nat.le_of_ble_eq_true rfl) (Nat.le_of_ble_eq_true rfl) (e1 ) (fun σ1 h => k1 σ1 h)
theorem b_write_133 {G : Gm} {T : Nat} {w : Wd} {σ : TW} {Q : Option Value → TW → Prop} {x1 : Int32} (k1 : Tn G T w mX2_write 12 [(0, .ref T), (1, .int (x1 + 1))] [] σ Q) : Tn G T w mX2_write 133 [(0, .ref T), (1, .int x1)] [] σ Q := by
  refine p_iinc (v := (x1 + 1)) (lv' := [(1, .int (x1 + 1)), (0, .ref T)]) 77 136 1 rfl rfl rfl (congrArg (fun z => x1 + z) ci_1) (Nat.le_of_ble_eq_true rfl) rfl ?_
  refine p_goto 78 12 rfl rfl ?_
  exact p_sub [1, 0] rfl (k1 )
theorem b_write_154 {G : Gm} {T : Nat} {w : Wd} {σ : TW} {Q : Option Value → TW → Prop} {x1 : Int32} (k1 : (σ.1 24) ≤ x1 → Q (some (.int (σ.1 24))) (tsI σ 1 (σ.1 24))) (b1 : ¬ (σ.1 24) ≤ x1 → vp_in x1 1200) (k2 : ¬ (σ.1 24) ≤ x1 → Tn G T w mX2_write 154 [(0, .ref T), (1, .int (x1 + 1))] [] (tsA σ 2 (x1 : Int32).toNatClampNeg (σ.2.1 3 (x1 : Int32).toNatClampNeg)) Q) : Tn G T w mX2_write 154 [(0, .ref T), (1, .int x1)] [] σ Q := by
  refine p_iload_n 87 155 1 rfl rfl rfl ?_
  refine p_aload_n 88 156 0 rfl rfl rfl ?_
  refine t_geti (v := .int (σ.1 24)) fl_X2_159 89 159 rfl rfl rfl ?_
  refine p_icmp_ge 90 162 180 rfl rfl rfl (fun c1 => ?_) (fun c1 => ?_)
  · refine p_aload_n 101 181 0 rfl rfl rfl ?_
    refine p_aload_n 102 182 0 rfl rfl rfl ?_
    refine t_geti (v := .int (σ.1 24)) fl_X2_159 103 185 rfl rfl rfl ?_
    refine t_puti fl_X2_79 104 188 rfl rfl rfl rfl (by decide) (tws_1 _ _ _) ?_
    refine p_aload_n 105 189 0 rfl rfl rfl ?_
    refine t_geti (v := .int (σ.1 24)) fl_X2_79 106 192 rfl rfl rfl ?_
    exact t_iret 107 rfl rfl rfl (k1 c1)
  · refine p_aload_n 91 163 0 rfl rfl rfl ?_
    refine t_geti (v := .ref (T + 1)) fl_X2_7 92 166 rfl rfl rfl ?_
    refine p_iload_n 93 167 1 rfl rfl rfl ?_
    refine p_aload_n 94 168 0 rfl rfl rfl ?_
    refine t_geti (v := .ref (T + 2)) fl_X2_13 95 171 rfl rfl rfl ?_
    refine p_iload_n 96 172 1 rfl rfl rfl ?_
    refine t_iald (d := 2) (f := 3) (v := (σ.2.1 3 (x1 : Int32).toNatClampNeg)) 97 173 rfl rfl td_2 rfl tf_3 (b1 c1) rfl ?_
    refine t_iast (d := 1) (f := 2) 98 174 rfl rfl td_1 rfl tf_2 (b1 c1) ?_
    refine p_iinc (v := (x1 + 1)) (lv' := [(1, .int (x1 + 1)), (0, .ref T)]) 99 177 1 rfl rfl rfl (congrArg (fun z => x1 + z) ci_1) (Nat.le_of_ble_eq_true rfl) rfl ?_
    refine p_goto 100 154 rfl rfl ?_
    exact p_sub [1, 0] rfl (k2 c1)
theorem b_put_0 {G : Gm} {T : Nat} {w : Wd} {σ : TW} {Q : Option Value → TW → Prop} {x1 : Int32} (k1 : (1200 : Int32) ≤ (σ.1 24) → Q none (tsI σ 24 ((σ.1 24) + 1))) (b1 : ¬ (1200 : Int32) ≤ (σ.1 24) → vp_in (σ.1 24) 1200) (k2 : ¬ (1200 : Int32) ≤ (σ.1 24) → Q none (tsI (tsA σ 3 ((σ.1 24) : Int32).toNatClampNeg x1) 24 ((σ.1 24) + 1))) : Tn G T w mX2_put 0 [(0, .ref T), (1, .int x1)] [] σ Q := by
  refine p_aload_n 0 1 0 rfl rfl rfl ?_
  refine t_geti (v := .int (σ.1 24)) fl_X2_159 1 4 rfl rfl rfl ?_
  refine p_sipush 2 7 rfl rfl cs_1200 ?_
  refine p_icmp_ge 3 10 20 rfl rfl rfl (fun c1 => ?_) (fun c1 => ?_)
  · refine p_aload_n 10 21 0 rfl rfl rfl ?_
    refine p_dup 11 22 rfl rfl rfl ?_
    refine t_geti (v := .int (σ.1 24)) fl_X2_159 12 25 rfl rfl rfl ?_
    refine p_iconst 13 26 rfl rfl ci_1 ?_
    refine p_iadd 14 27 rfl rfl ?_
    refine t_puti fl_X2_159 15 30 rfl rfl rfl rfl (by decide) (tws_24 _ _ _) ?_
    exact t_vret 16 rfl rfl (k1 c1)
  · refine p_aload_n 4 11 0 rfl rfl rfl ?_
    refine t_geti (v := .ref (T + 2)) fl_X2_13 5 14 rfl rfl rfl ?_
    refine p_aload_n 6 15 0 rfl rfl rfl ?_
    refine t_geti (v := .int (σ.1 24)) fl_X2_159 7 18 rfl rfl rfl ?_
    refine p_iload_n 8 19 1 rfl rfl rfl ?_
    refine t_iast (d := 2) (f := 3) 9 20 rfl rfl td_2 rfl tf_3 (b1 c1) ?_
    refine p_aload_n 10 21 0 rfl rfl rfl ?_
    refine p_dup 11 22 rfl rfl rfl ?_
    refine t_geti (v := .int (σ.1 24)) fl_X2_159 12 25 rfl rfl rfl ?_
    refine p_iconst 13 26 rfl rfl ci_1 ?_
    refine p_iadd 14 27 rfl rfl ?_
    refine t_puti fl_X2_159 15 30 rfl rfl rfl rfl (by decide) (tws_24 _ _ _) ?_
    exact t_vret 16 rfl rfl (k2 c1)
theorem b_putNumber_0 {G : Gm} {T : Nat} {w : Wd} {σ : TW} {Q : Option Value → TW → Prop} {x1 : Int32} (k1 : (0 : Int32) ≤ x1 → Tn G T w mX2_putNumber 10 [(0, .ref T), (1, .int x1)] [] σ Q) {Q2 : TW → Prop} (e2 : ¬ (0 : Int32) ≤ x1 → Tvv G T w mX2_put (.ref T :: [.int 45]) σ Q2) (k2 : ¬ (0 : Int32) ≤ x1 → ∀ σ2, Q2 σ2 → Tn G T w mX2_putNumber 10 [(0, .ref T), (1, .int x1)] [] σ2 Q) : Tn G T w mX2_putNumber 0 [(0, .ref T), (1, .int x1)] [] σ Q := by
  refine p_iload_n 0 1 1 rfl rfl rfl ?_
  refine p_if_ge 1 4 10 rfl rfl rfl (fun c1 => ?_) (fun c1 => ?_)
  · exact k1 c1
  · refine p_aload_n 2 5 0 rfl rfl rfl ?_
    refine p_bipush 3 7 rfl rfl cb_45 ?_
    exact t_cVv lk_X2_162 4 10 rfl rfl (by decide) [.int 45] rfl rfl (Nat.le_of_ble_eq_true rfl) (Nat.le_of_ble_eq_true rfl) (e2 c1) (fun σ1 h => k2 c1 σ1 h)
theorem b_putNumber_10 {G : Gm} {T : Nat} {w : Wd} {σ : TW} {Q : Option Value → TW → Prop} {x1 : Int32} (k1 : (0 : Int32) ≤ x1 → Tn G T w mX2_putNumber 23 [(0, .ref T), (2, .int x1), (3, .int 1)] [] σ Q) (k2 : ¬ (0 : Int32) ≤ x1 → Tn G T w mX2_putNumber 23 [(0, .ref T), (2, .int (-x1)), (3, .int 1)] [] σ Q) : Tn G T w mX2_putNumber 10 [(0, .ref T), (1, .int x1)] [] σ Q := by
  refine p_iload_n 5 11 1 rfl rfl rfl ?_
  refine p_if_ge 6 14 19 rfl rfl rfl (fun c1 => ?_) (fun c1 => ?_)
  · refine p_iload_n 10 20 1 rfl rfl rfl ?_
    refine p_istore_n (lv' := [(2, .int x1), (0, .ref T), (1, .int x1)]) 11 21 rfl rfl (Nat.le_of_ble_eq_true rfl) rfl ?_
    refine p_iconst 12 22 rfl rfl ci_1 ?_
    refine p_istore_n (lv' := [(3, .int 1), (2, .int x1), (0, .ref T), (1, .int x1)]) 13 23 rfl rfl (Nat.le_of_ble_eq_true rfl) rfl ?_
    exact p_sub [2, 1, 0] rfl (k1 c1)
  · refine p_iload_n 7 15 1 rfl rfl rfl ?_
    refine p_ineg 8 16 rfl rfl ?_
    refine p_goto 9 20 rfl rfl ?_
    refine p_istore_n (lv' := [(2, .int (-x1)), (0, .ref T), (1, .int x1)]) 11 21 rfl rfl (Nat.le_of_ble_eq_true rfl) rfl ?_
    refine p_iconst 12 22 rfl rfl ci_1 ?_
    refine p_istore_n (lv' := [(3, .int 1), (2, .int (-x1)), (0, .ref T), (1, .int x1)]) 13 23 rfl rfl (Nat.le_of_ble_eq_true rfl) rfl ?_
    exact p_sub [2, 1, 0] rfl (k2 c1)
theorem b_putNumber_23 {G : Gm} {T : Nat} {w : Wd} {σ : TW} {Q : Option Value → TW → Prop} {x2 : Int32} {x3 : Int32} (b1 : ¬ x3 = (0 : Int32)) (k1 : (x2 / x3) ≤ 9 → Tn G T w mX2_putNumber 39 [(0, .ref T), (2, .int x2), (3, .int x3)] [] σ Q) (k2 : ¬ (x2 / x3) ≤ 9 → Tn G T w mX2_putNumber 23 [(0, .ref T), (2, .int x2), (3, .int (10 * x3))] [] σ Q) : Tn G T w mX2_putNumber 23 [(0, .ref T), (2, .int x2), (3, .int x3)] [] σ Q := by
  refine p_iload_n 14 24 1 rfl rfl rfl ?_
  refine p_iload_n 15 25 2 rfl rfl rfl ?_
  refine p_idiv 16 26 rfl rfl b1 ?_
  refine p_bipush 17 28 rfl rfl cb_9 ?_
  refine p_icmp_le 18 31 39 rfl rfl rfl (fun c1 => ?_) (fun c1 => ?_)
  · exact k1 c1
  · refine p_bipush 19 33 rfl rfl cb_10 ?_
    refine p_iload_n 20 34 2 rfl rfl rfl ?_
    refine p_imul 21 35 rfl rfl ?_
    refine p_istore_n (lv' := [(3, .int (10 * x3)), (0, .ref T), (2, .int x2)]) 22 36 rfl rfl (Nat.le_of_ble_eq_true rfl) rfl ?_
    refine p_goto 23 23 rfl rfl ?_
    exact p_sub [1, 2, 0] rfl (k2 c1)
theorem b_putNumber_39 {G : Gm} {T : Nat} {w : Wd} {σ : TW} {Q : Option Value → TW → Prop} {x2 : Int32} {x3 : Int32} (k1 : x3 ≤ 0 → Q none σ) (b1 : ¬ x3 ≤ 0 → ¬ x3 = (0 : Int32)) {Q2 : TW → Prop} (e2 : ¬ x3 ≤ 0 → Tvv G T w mX2_put (.ref T :: [.int (48 + ((x2 / x3) - (x2 / x3) / 10 * 10))]) σ Q2) (k2 : ¬ x3 ≤ 0 → ∀ σ2, Q2 σ2 → Tn G T w mX2_putNumber 56 [(0, .ref T), (2, .int x2), (3, .int x3)] [] σ2 Q) : Tn G T w mX2_putNumber 39 [(0, .ref T), (2, .int x2), (3, .int x3)] [] σ Q := by
  refine p_iload_n 24 40 2 rfl rfl rfl ?_
  refine p_if_le 25 43 64 rfl rfl rfl (fun c1 => ?_) (fun c1 => ?_)
  · exact t_vret 40 rfl rfl (k1 c1)
  · refine p_aload_n 26 44 0 rfl rfl rfl ?_
    refine p_bipush 27 46 rfl rfl cb_48 ?_
    refine p_iload_n 28 47 1 rfl rfl rfl ?_
    refine p_iload_n 29 48 2 rfl rfl rfl ?_
    refine p_idiv 30 49 rfl rfl (b1 c1) ?_
    refine p_bipush 31 51 rfl rfl cb_10 ?_
    refine p_irem 32 52 rfl rfl (by decide) ?_
    refine p_iadd 33 53 rfl rfl ?_
    exact t_cVv lk_X2_162 34 56 rfl rfl (by decide) [.int (48 + ((x2 / x3) - (x2 / x3) / 10 * 10))] rfl rfl (Nat.le_of_ble_eq_true rfl) (Nat.le_of_ble_eq_true rfl) (e2 c1) (fun σ1 h => k2 c1 σ1 h)
theorem b_putNumber_56 {G : Gm} {T : Nat} {w : Wd} {σ : TW} {Q : Option Value → TW → Prop} {x2 : Int32} {x3 : Int32} (k1 : Tn G T w mX2_putNumber 39 [(0, .ref T), (2, .int x2), (3, .int (x3 / 10))] [] σ Q) : Tn G T w mX2_putNumber 56 [(0, .ref T), (2, .int x2), (3, .int x3)] [] σ Q := by
  refine p_iload_n 35 57 2 rfl rfl rfl ?_
  refine p_bipush 36 59 rfl rfl cb_10 ?_
  refine p_idiv 37 60 rfl rfl (by decide) ?_
  refine p_istore_n (lv' := [(3, .int (x3 / 10)), (0, .ref T), (2, .int x2)]) 38 61 rfl rfl (Nat.le_of_ble_eq_true rfl) rfl ?_
  refine p_goto 39 39 rfl rfl ?_
  exact p_sub [1, 2, 0] rfl (k1 )
theorem b_putArgument_0 {G : Gm} {T : Nat} {w : Wd} {σ : TW} {Q : Option Value → TW → Prop} {x1 : Int32} (b1 : vp_in x1 960) {Q1 : TW → Prop} (e1 : (σ.2.1 15 (x1 : Int32).toNatClampNeg) = 0 → Tvv G T w mX2_putNumber (.ref T :: [.int (σ.2.1 16 (x1 : Int32).toNatClampNeg)]) σ Q1) (k1 : (σ.2.1 15 (x1 : Int32).toNatClampNeg) = 0 → ∀ σ1, Q1 σ1 → Tn G T w mX2_putArgument 58 [] [] σ1 Q) {Q2 : TW → Prop} (e2 : ¬ (σ.2.1 15 (x1 : Int32).toNatClampNeg) = 0 → (σ.2.1 15 (x1 : Int32).toNatClampNeg) = 1 → Tvv G T w mX2_put (.ref T :: [.int 39]) σ Q2) (k2 : ¬ (σ.2.1 15 (x1 : Int32).toNatClampNeg) = 0 → (σ.2.1 15 (x1 : Int32).toNatClampNeg) = 1 → ∀ σ2, Q2 σ2 → Tn G T w mX2_putArgument 67 [(0, .ref T), (1, .int x1)] [] σ2 Q) {Q3 : TW → Prop} (e3 : ¬ (σ.2.1 15 (x1 : Int32).toNatClampNeg) = 0 → ¬ (σ.2.1 15 (x1 : Int32).toNatClampNeg) = 1 → (σ.2.1 15 (x1 : Int32).toNatClampNeg) = 2 → Tvv G T w mX2_put (.ref T :: [.int 35]) σ Q3) (k3 : ¬ (σ.2.1 15 (x1 : Int32).toNatClampNeg) = 0 → ¬ (σ.2.1 15 (x1 : Int32).toNatClampNeg) = 1 → (σ.2.1 15 (x1 : Int32).toNatClampNeg) = 2 → ∀ σ3, Q3 σ3 → Tn G T w mX2_putArgument 128 [(0, .ref T), (1, .int x1)] [] σ3 Q) {Q4 : TW → Prop} (e4 : ¬ (σ.2.1 15 (x1 : Int32).toNatClampNeg) = 0 → ¬ (σ.2.1 15 (x1 : Int32).toNatClampNeg) = 1 → ¬ (σ.2.1 15 (x1 : Int32).toNatClampNeg) = 2 → (σ.2.1 15 (x1 : Int32).toNatClampNeg) = 5 → Tvv G T w mX2_put (.ref T :: [.int 46]) σ Q4) (k4 : ¬ (σ.2.1 15 (x1 : Int32).toNatClampNeg) = 0 → ¬ (σ.2.1 15 (x1 : Int32).toNatClampNeg) = 1 → ¬ (σ.2.1 15 (x1 : Int32).toNatClampNeg) = 2 → (σ.2.1 15 (x1 : Int32).toNatClampNeg) = 5 → ∀ σ4, Q4 σ4 → Tn G T w mX2_putArgument 147 [(0, .ref T), (1, .int x1)] [] σ4 Q) {Q5 : TW → Prop} (e5 : ¬ (σ.2.1 15 (x1 : Int32).toNatClampNeg) = 0 → ¬ (σ.2.1 15 (x1 : Int32).toNatClampNeg) = 1 → ¬ (σ.2.1 15 (x1 : Int32).toNatClampNeg) = 2 → ¬ (σ.2.1 15 (x1 : Int32).toNatClampNeg) = 5 → (σ.2.1 15 (x1 : Int32).toNatClampNeg) = 6 → Tvv G T w mX2_put (.ref T :: [.int 36]) σ Q5) (k5 : ¬ (σ.2.1 15 (x1 : Int32).toNatClampNeg) = 0 → ¬ (σ.2.1 15 (x1 : Int32).toNatClampNeg) = 1 → ¬ (σ.2.1 15 (x1 : Int32).toNatClampNeg) = 2 → ¬ (σ.2.1 15 (x1 : Int32).toNatClampNeg) = 5 → (σ.2.1 15 (x1 : Int32).toNatClampNeg) = 6 → ∀ σ5, Q5 σ5 → Tn G T w mX2_putArgument 195 [] [] σ5 Q) {Q6 : TW → Prop} (e6 : ¬ (σ.2.1 15 (x1 : Int32).toNatClampNeg) = 0 → ¬ (σ.2.1 15 (x1 : Int32).toNatClampNeg) = 1 → ¬ (σ.2.1 15 (x1 : Int32).toNatClampNeg) = 2 → ¬ (σ.2.1 15 (x1 : Int32).toNatClampNeg) = 5 → ¬ (σ.2.1 15 (x1 : Int32).toNatClampNeg) = 6 → Tvv G T w mX2_put (.ref T :: [.int 40]) σ Q6) (k6 : ¬ (σ.2.1 15 (x1 : Int32).toNatClampNeg) = 0 → ¬ (σ.2.1 15 (x1 : Int32).toNatClampNeg) = 1 → ¬ (σ.2.1 15 (x1 : Int32).toNatClampNeg) = 2 → ¬ (σ.2.1 15 (x1 : Int32).toNatClampNeg) = 5 → ¬ (σ.2.1 15 (x1 : Int32).toNatClampNeg) = 6 → ∀ σ6, Q6 σ6 → Tn G T w mX2_putArgument 204 [(0, .ref T), (1, .int x1)] [] σ6 Q) : Tn G T w mX2_putArgument 0 [(0, .ref T), (1, .int x1)] [] σ Q := by
  refine p_aload_n 0 1 0 rfl rfl rfl ?_
  refine t_geti (v := .ref (T + 14)) fl_X2_50 1 4 rfl rfl rfl ?_
  refine p_iload_n 2 5 1 rfl rfl rfl ?_
  refine t_iald (d := 14) (f := 15) (v := (σ.2.1 15 (x1 : Int32).toNatClampNeg)) 3 6 rfl rfl td_14 rfl tf_15 b1 rfl ?_
  by_cases c1 : (σ.2.1 15 (x1 : Int32).toNatClampNeg) = 0
  · refine p_tabIn (off := 42) 4 48 rfl (by rw [c1]; decide) (by rw [c1]; decide) (by rw [c1]; rfl) rfl ?_
    refine p_aload_n 5 49 0 rfl rfl rfl ?_
    refine p_aload_n 6 50 0 rfl rfl rfl ?_
    refine t_geti (v := .ref (T + 15)) fl_X2_53 7 53 rfl rfl rfl ?_
    refine p_iload_n 8 54 1 rfl rfl rfl ?_
    refine t_iald (d := 15) (f := 16) (v := (σ.2.1 16 (x1 : Int32).toNatClampNeg)) 9 55 rfl rfl td_15 rfl tf_16 b1 rfl ?_
    exact t_cVv lk_X2_165 10 58 rfl rfl (by decide) [.int (σ.2.1 16 (x1 : Int32).toNatClampNeg)] rfl rfl (Nat.le_of_ble_eq_true rfl) (Nat.le_of_ble_eq_true rfl) (e1 c1) (fun σ1 h => p_sub [] rfl (k1 c1 σ1 h))
  by_cases c2 : (σ.2.1 15 (x1 : Int32).toNatClampNeg) = 1
  · refine p_tabIn (off := 55) 4 61 rfl (by rw [c2]; decide) (by rw [c2]; decide) (by rw [c2]; rfl) rfl ?_
    refine p_aload_n 12 62 0 rfl rfl rfl ?_
    refine p_bipush 13 64 rfl rfl cb_39 ?_
    exact t_cVv lk_X2_162 14 67 rfl rfl (by decide) [.int 39] rfl rfl (Nat.le_of_ble_eq_true rfl) (Nat.le_of_ble_eq_true rfl) (e2 c1 c2) (fun σ1 h => k2 c1 c2 σ1 h)
  by_cases c3 : (σ.2.1 15 (x1 : Int32).toNatClampNeg) = 2
  · refine p_tabIn (off := 116) 4 122 rfl (by rw [c3]; decide) (by rw [c3]; decide) (by rw [c3]; rfl) rfl ?_
    refine p_aload_n 47 123 0 rfl rfl rfl ?_
    refine p_bipush 48 125 rfl rfl cb_35 ?_
    exact t_cVv lk_X2_162 49 128 rfl rfl (by decide) [.int 35] rfl rfl (Nat.le_of_ble_eq_true rfl) (Nat.le_of_ble_eq_true rfl) (e3 c1 c2 c3) (fun σ1 h => k3 c1 c2 c3 σ1 h)
  by_cases c4 : (σ.2.1 15 (x1 : Int32).toNatClampNeg) = 5
  · refine p_tabIn (off := 135) 4 141 rfl (by rw [c4]; decide) (by rw [c4]; decide) (by rw [c4]; rfl) rfl ?_
    refine p_aload_n 57 142 0 rfl rfl rfl ?_
    refine p_bipush 58 144 rfl rfl cb_46 ?_
    exact t_cVv lk_X2_162 59 147 rfl rfl (by decide) [.int 46] rfl rfl (Nat.le_of_ble_eq_true rfl) (Nat.le_of_ble_eq_true rfl) (e4 c1 c2 c3 c4) (fun σ1 h => k4 c1 c2 c3 c4 σ1 h)
  by_cases c5 : (σ.2.1 15 (x1 : Int32).toNatClampNeg) = 6
  · refine p_tabIn (off := 183) 4 189 rfl (by rw [c5]; decide) (by rw [c5]; decide) (by rw [c5]; rfl) rfl ?_
    refine p_aload_n 84 190 0 rfl rfl rfl ?_
    refine p_bipush 85 192 rfl rfl cb_36 ?_
    exact t_cVv lk_X2_162 86 195 rfl rfl (by decide) [.int 36] rfl rfl (Nat.le_of_ble_eq_true rfl) (Nat.le_of_ble_eq_true rfl) (e5 c1 c2 c3 c4 c5) (fun σ1 h => p_sub [] rfl (k5 c1 c2 c3 c4 c5 σ1 h))
  refine tab_X2_putArgument c1 c2 c3 c4 c5 ?_
  refine p_aload_n 88 199 0 rfl rfl rfl ?_
  refine p_bipush 89 201 rfl rfl cb_40 ?_
  exact t_cVv lk_X2_162 90 204 rfl rfl (by decide) [.int 40] rfl rfl (Nat.le_of_ble_eq_true rfl) (Nat.le_of_ble_eq_true rfl) (e6 c1 c2 c3 c4 c5) (fun σ1 h => k6 c1 c2 c3 c4 c5 σ1 h)
theorem b_putArgument_58 {G : Gm} {T : Nat} {w : Wd} {σ : TW} {Q : Option Value → TW → Prop} (k1 : Tn G T w mX2_putArgument 269 [] [] σ Q) : Tn G T w mX2_putArgument 58 [] [] σ Q := by
  refine p_goto 11 269 rfl rfl ?_
  exact k1 
theorem b_putArgument_67 {G : Gm} {T : Nat} {w : Wd} {σ : TW} {Q : Option Value → TW → Prop} {x1 : Int32} (k1 : Tn G T w mX2_putArgument 69 [(0, .ref T), (1, .int x1), (2, .int 0)] [] σ Q) : Tn G T w mX2_putArgument 67 [(0, .ref T), (1, .int x1)] [] σ Q := by
  refine p_iconst 15 68 rfl rfl ci_0 ?_
  refine p_istore_n (lv' := [(2, .int 0), (0, .ref T), (1, .int x1)]) 16 69 rfl rfl (Nat.le_of_ble_eq_true rfl) rfl ?_
  exact p_sub [1, 2, 0] rfl (k1 )
theorem b_putArgument_69 {G : Gm} {T : Nat} {w : Wd} {σ : TW} {Q : Option Value → TW → Prop} {x1 : Int32} {x2 : Int32} (b1 : vp_in x1 960) {Q1 : TW → Prop} (e1 : (σ.2.1 16 (x1 : Int32).toNatClampNeg) ≤ x2 → Tvv G T w mX2_put (.ref T :: [.int 39]) σ Q1) (k1 : (σ.2.1 16 (x1 : Int32).toNatClampNeg) ≤ x2 → ∀ σ1, Q1 σ1 → Tn G T w mX2_putArgument 119 [] [] σ1 Q) (b2 : ¬ (σ.2.1 16 (x1 : Int32).toNatClampNeg) ≤ x2 → vp_in ((20 * x1) + x2) 19200) {Q2 : TW → Prop} (e2 : ¬ (σ.2.1 16 (x1 : Int32).toNatClampNeg) ≤ x2 → Tvv G T w mX2_put (.ref T :: [.int (σ.2.1 17 (((20 * x1) + x2) : Int32).toNatClampNeg)]) σ Q2) (k2 : ¬ (σ.2.1 16 (x1 : Int32).toNatClampNeg) ≤ x2 → ∀ σ2, Q2 σ2 → Tn G T w mX2_putArgument 96 [(0, .ref T), (1, .int x1), (2, .int x2), (3, .int (σ.2.1 17 (((20 * x1) + x2) : Int32).toNatClampNeg))] [] σ2 Q) : Tn G T w mX2_putArgument 69 [(0, .ref T), (1, .int x1), (2, .int x2)] [] σ Q := by
  refine p_iload_n 17 70 2 rfl rfl rfl ?_
  refine p_aload_n 18 71 0 rfl rfl rfl ?_
  refine t_geti (v := .ref (T + 15)) fl_X2_53 19 74 rfl rfl rfl ?_
  refine p_iload_n 20 75 1 rfl rfl rfl ?_
  refine t_iald (d := 15) (f := 16) (v := (σ.2.1 16 (x1 : Int32).toNatClampNeg)) 21 76 rfl rfl td_15 rfl tf_16 b1 rfl ?_
  refine p_icmp_ge 22 79 113 rfl rfl rfl (fun c1 => ?_) (fun c1 => ?_)
  · refine p_aload_n 43 114 0 rfl rfl rfl ?_
    refine p_bipush 44 116 rfl rfl cb_39 ?_
    exact t_cVv lk_X2_162 45 119 rfl rfl (by decide) [.int 39] rfl rfl (Nat.le_of_ble_eq_true rfl) (Nat.le_of_ble_eq_true rfl) (e1 c1) (fun σ1 h => p_sub [] rfl (k1 c1 σ1 h))
  · refine p_aload_n 23 80 0 rfl rfl rfl ?_
    refine t_geti (v := .ref (T + 16)) fl_X2_56 24 83 rfl rfl rfl ?_
    refine p_bipush 25 85 rfl rfl cb_20 ?_
    refine p_iload_n 26 86 1 rfl rfl rfl ?_
    refine p_imul 27 87 rfl rfl ?_
    refine p_iload_n 28 88 2 rfl rfl rfl ?_
    refine p_iadd 29 89 rfl rfl ?_
    refine t_iald (d := 16) (f := 17) (v := (σ.2.1 17 (((20 * x1) + x2) : Int32).toNatClampNeg)) 30 90 rfl rfl td_16 rfl tf_17 (b2 c1) rfl ?_
    refine p_istore_n (lv' := [(3, .int (σ.2.1 17 (((20 * x1) + x2) : Int32).toNatClampNeg)), (0, .ref T), (1, .int x1), (2, .int x2)]) 31 91 rfl rfl (Nat.le_of_ble_eq_true rfl) rfl ?_
    refine p_aload_n 32 92 1 rfl rfl rfl ?_
    refine p_iload_n 33 93 0 rfl rfl rfl ?_
    exact t_cVv lk_X2_162 34 96 rfl rfl (by decide) [.int (σ.2.1 17 (((20 * x1) + x2) : Int32).toNatClampNeg)] rfl rfl (Nat.le_of_ble_eq_true rfl) (Nat.le_of_ble_eq_true rfl) (e2 c1) (fun σ1 h => p_sub [1, 2, 3, 0] rfl (k2 c1 σ1 h))
theorem b_putArgument_96 {G : Gm} {T : Nat} {w : Wd} {σ : TW} {Q : Option Value → TW → Prop} {x1 : Int32} {x2 : Int32} {x3 : Int32} (k1 : ¬ x3 = 39 → Tn G T w mX2_putArgument 107 [(0, .ref T), (1, .int x1), (2, .int x2)] [] σ Q) {Q2 : TW → Prop} (e2 : x3 = 39 → Tvv G T w mX2_put (.ref T :: [.int x3]) σ Q2) (k2 : x3 = 39 → ∀ σ2, Q2 σ2 → Tn G T w mX2_putArgument 107 [(0, .ref T), (1, .int x1), (2, .int x2)] [] σ2 Q) : Tn G T w mX2_putArgument 96 [(0, .ref T), (1, .int x1), (2, .int x2), (3, .int x3)] [] σ Q := by
  refine p_iload_n 35 97 3 rfl rfl rfl ?_
  refine p_bipush 36 99 rfl rfl cb_39 ?_
  refine p_icmp_ne 37 102 107 rfl rfl rfl (fun c1 => ?_) (fun c1 => ?_)
  · exact p_sub [0, 1, 2] rfl (k1 c1)
  · refine p_aload_n 38 103 0 rfl rfl rfl ?_
    refine p_iload_n 39 104 3 rfl rfl rfl ?_
    exact t_cVv lk_X2_162 40 107 rfl rfl (by decide) [.int x3] rfl rfl (Nat.le_of_ble_eq_true rfl) (Nat.le_of_ble_eq_true rfl) (e2 c1) (fun σ1 h => p_sub [0, 1, 2] rfl (k2 c1 σ1 h))
theorem b_putArgument_107 {G : Gm} {T : Nat} {w : Wd} {σ : TW} {Q : Option Value → TW → Prop} {x1 : Int32} {x2 : Int32} (k1 : Tn G T w mX2_putArgument 69 [(0, .ref T), (1, .int x1), (2, .int (x2 + 1))] [] σ Q) : Tn G T w mX2_putArgument 107 [(0, .ref T), (1, .int x1), (2, .int x2)] [] σ Q := by
  refine p_iinc (v := (x2 + 1)) (lv' := [(2, .int (x2 + 1)), (0, .ref T), (1, .int x1)]) 41 110 2 rfl rfl rfl (congrArg (fun z => x2 + z) ci_1) (Nat.le_of_ble_eq_true rfl) rfl ?_
  refine p_goto 42 69 rfl rfl ?_
  exact p_sub [1, 2, 0] rfl (k1 )
theorem b_putArgument_119 {G : Gm} {T : Nat} {w : Wd} {σ : TW} {Q : Option Value → TW → Prop} (k1 : Tn G T w mX2_putArgument 269 [] [] σ Q) : Tn G T w mX2_putArgument 119 [] [] σ Q := by
  refine p_goto 46 269 rfl rfl ?_
  exact k1 
theorem b_putArgument_128 {G : Gm} {T : Nat} {w : Wd} {σ : TW} {Q : Option Value → TW → Prop} {x1 : Int32} (b1 : vp_in x1 960) {Q1 : TW → Prop} (e1 : Tvv G T w mX2_putNumber (.ref T :: [.int (σ.2.1 16 (x1 : Int32).toNatClampNeg)]) σ Q1) (k1 : ∀ σ1, Q1 σ1 → Tn G T w mX2_putArgument 138 [] [] σ1 Q) : Tn G T w mX2_putArgument 128 [(0, .ref T), (1, .int x1)] [] σ Q := by
  refine p_aload_n 50 129 0 rfl rfl rfl ?_
  refine p_aload_n 51 130 0 rfl rfl rfl ?_
  refine t_geti (v := .ref (T + 15)) fl_X2_53 52 133 rfl rfl rfl ?_
  refine p_iload_n 53 134 1 rfl rfl rfl ?_
  refine t_iald (d := 15) (f := 16) (v := (σ.2.1 16 (x1 : Int32).toNatClampNeg)) 54 135 rfl rfl td_15 rfl tf_16 b1 rfl ?_
  exact t_cVv lk_X2_165 55 138 rfl rfl (by decide) [.int (σ.2.1 16 (x1 : Int32).toNatClampNeg)] rfl rfl (Nat.le_of_ble_eq_true rfl) (Nat.le_of_ble_eq_true rfl) (e1 ) (fun σ1 h => p_sub [] rfl (k1 σ1 h))
theorem b_putArgument_138 {G : Gm} {T : Nat} {w : Wd} {σ : TW} {Q : Option Value → TW → Prop} (k1 : Tn G T w mX2_putArgument 269 [] [] σ Q) : Tn G T w mX2_putArgument 138 [] [] σ Q := by
  refine p_goto 56 269 rfl rfl ?_
  exact k1 
theorem b_putArgument_147 {G : Gm} {T : Nat} {w : Wd} {σ : TW} {Q : Option Value → TW → Prop} {x1 : Int32} (k1 : Tn G T w mX2_putArgument 149 [(0, .ref T), (1, .int x1), (2, .int 0)] [] σ Q) : Tn G T w mX2_putArgument 147 [(0, .ref T), (1, .int x1)] [] σ Q := by
  refine p_iconst 60 148 rfl rfl ci_0 ?_
  refine p_istore_n (lv' := [(2, .int 0), (0, .ref T), (1, .int x1)]) 61 149 rfl rfl (Nat.le_of_ble_eq_true rfl) rfl ?_
  exact p_sub [1, 2, 0] rfl (k1 )
theorem b_putArgument_149 {G : Gm} {T : Nat} {w : Wd} {σ : TW} {Q : Option Value → TW → Prop} {x1 : Int32} {x2 : Int32} (b1 : vp_in x1 960) {Q1 : TW → Prop} (e1 : (σ.2.1 16 (x1 : Int32).toNatClampNeg) ≤ x2 → Tvv G T w mX2_put (.ref T :: [.int 46]) σ Q1) (k1 : (σ.2.1 16 (x1 : Int32).toNatClampNeg) ≤ x2 → ∀ σ1, Q1 σ1 → Tn G T w mX2_putArgument 186 [] [] σ1 Q) (b2 : ¬ (σ.2.1 16 (x1 : Int32).toNatClampNeg) ≤ x2 → vp_in ((20 * x1) + x2) 19200) {Q2 : TW → Prop} (e2 : ¬ (σ.2.1 16 (x1 : Int32).toNatClampNeg) ≤ x2 → Tvv G T w mX2_put (.ref T :: [.int (σ.2.1 17 (((20 * x1) + x2) : Int32).toNatClampNeg)]) σ Q2) (k2 : ¬ (σ.2.1 16 (x1 : Int32).toNatClampNeg) ≤ x2 → ∀ σ2, Q2 σ2 → Tn G T w mX2_putArgument 174 [(0, .ref T), (1, .int x1), (2, .int x2)] [] σ2 Q) : Tn G T w mX2_putArgument 149 [(0, .ref T), (1, .int x1), (2, .int x2)] [] σ Q := by
  refine p_iload_n 62 150 2 rfl rfl rfl ?_
  refine p_aload_n 63 151 0 rfl rfl rfl ?_
  refine t_geti (v := .ref (T + 15)) fl_X2_53 64 154 rfl rfl rfl ?_
  refine p_iload_n 65 155 1 rfl rfl rfl ?_
  refine t_iald (d := 15) (f := 16) (v := (σ.2.1 16 (x1 : Int32).toNatClampNeg)) 66 156 rfl rfl td_15 rfl tf_16 b1 rfl ?_
  refine p_icmp_ge 67 159 180 rfl rfl rfl (fun c1 => ?_) (fun c1 => ?_)
  · refine p_aload_n 80 181 0 rfl rfl rfl ?_
    refine p_bipush 81 183 rfl rfl cb_46 ?_
    exact t_cVv lk_X2_162 82 186 rfl rfl (by decide) [.int 46] rfl rfl (Nat.le_of_ble_eq_true rfl) (Nat.le_of_ble_eq_true rfl) (e1 c1) (fun σ1 h => p_sub [] rfl (k1 c1 σ1 h))
  · refine p_aload_n 68 160 0 rfl rfl rfl ?_
    refine p_aload_n 69 161 0 rfl rfl rfl ?_
    refine t_geti (v := .ref (T + 16)) fl_X2_56 70 164 rfl rfl rfl ?_
    refine p_bipush 71 166 rfl rfl cb_20 ?_
    refine p_iload_n 72 167 1 rfl rfl rfl ?_
    refine p_imul 73 168 rfl rfl ?_
    refine p_iload_n 74 169 2 rfl rfl rfl ?_
    refine p_iadd 75 170 rfl rfl ?_
    refine t_iald (d := 16) (f := 17) (v := (σ.2.1 17 (((20 * x1) + x2) : Int32).toNatClampNeg)) 76 171 rfl rfl td_16 rfl tf_17 (b2 c1) rfl ?_
    exact t_cVv lk_X2_162 77 174 rfl rfl (by decide) [.int (σ.2.1 17 (((20 * x1) + x2) : Int32).toNatClampNeg)] rfl rfl (Nat.le_of_ble_eq_true rfl) (Nat.le_of_ble_eq_true rfl) (e2 c1) (fun σ1 h => k2 c1 σ1 h)
theorem b_putArgument_174 {G : Gm} {T : Nat} {w : Wd} {σ : TW} {Q : Option Value → TW → Prop} {x1 : Int32} {x2 : Int32} (k1 : Tn G T w mX2_putArgument 149 [(0, .ref T), (1, .int x1), (2, .int (x2 + 1))] [] σ Q) : Tn G T w mX2_putArgument 174 [(0, .ref T), (1, .int x1), (2, .int x2)] [] σ Q := by
  refine p_iinc (v := (x2 + 1)) (lv' := [(2, .int (x2 + 1)), (0, .ref T), (1, .int x1)]) 78 177 2 rfl rfl rfl (congrArg (fun z => x2 + z) ci_1) (Nat.le_of_ble_eq_true rfl) rfl ?_
  refine p_goto 79 149 rfl rfl ?_
  exact p_sub [1, 2, 0] rfl (k1 )
theorem b_putArgument_186 {G : Gm} {T : Nat} {w : Wd} {σ : TW} {Q : Option Value → TW → Prop} (k1 : Tn G T w mX2_putArgument 269 [] [] σ Q) : Tn G T w mX2_putArgument 186 [] [] σ Q := by
  refine p_goto 83 269 rfl rfl ?_
  exact k1 
theorem b_putArgument_195 {G : Gm} {T : Nat} {w : Wd} {σ : TW} {Q : Option Value → TW → Prop} (k1 : Tn G T w mX2_putArgument 269 [] [] σ Q) : Tn G T w mX2_putArgument 195 [] [] σ Q := by
  refine p_goto 87 269 rfl rfl ?_
  exact k1 
theorem b_putArgument_204 {G : Gm} {T : Nat} {w : Wd} {σ : TW} {Q : Option Value → TW → Prop} {x1 : Int32} (k1 : Tn G T w mX2_putArgument 206 [(0, .ref T), (1, .int x1), (2, .int 0)] [] σ Q) : Tn G T w mX2_putArgument 204 [(0, .ref T), (1, .int x1)] [] σ Q := by
  refine p_iconst 91 205 rfl rfl ci_0 ?_
  refine p_istore_n (lv' := [(2, .int 0), (0, .ref T), (1, .int x1)]) 92 206 rfl rfl (Nat.le_of_ble_eq_true rfl) rfl ?_
  exact p_sub [1, 2, 0] rfl (k1 )
theorem b_putArgument_206 {G : Gm} {T : Nat} {w : Wd} {σ : TW} {Q : Option Value → TW → Prop} {x1 : Int32} {x2 : Int32} (b1 : vp_in x1 960) {Q1 : TW → Prop} (e1 : (σ.2.1 16 (x1 : Int32).toNatClampNeg) ≤ x2 → Tvv G T w mX2_put (.ref T :: [.int 41]) σ Q1) (k1 : (σ.2.1 16 (x1 : Int32).toNatClampNeg) ≤ x2 → ∀ σ1, Q1 σ1 → Tn G T w mX2_putArgument 269 [] [] σ1 Q) (k2 : ¬ (σ.2.1 16 (x1 : Int32).toNatClampNeg) ≤ x2 → x2 ≤ 0 → Tn G T w mX2_putArgument 226 [(0, .ref T), (1, .int x1), (2, .int x2)] [] σ Q) {Q3 : TW → Prop} (e3 : ¬ (σ.2.1 16 (x1 : Int32).toNatClampNeg) ≤ x2 → ¬ x2 ≤ 0 → Tvv G T w mX2_put (.ref T :: [.int 44]) σ Q3) (k3 : ¬ (σ.2.1 16 (x1 : Int32).toNatClampNeg) ≤ x2 → ¬ x2 ≤ 0 → ∀ σ3, Q3 σ3 → Tn G T w mX2_putArgument 226 [(0, .ref T), (1, .int x1), (2, .int x2)] [] σ3 Q) : Tn G T w mX2_putArgument 206 [(0, .ref T), (1, .int x1), (2, .int x2)] [] σ Q := by
  refine p_iload_n 93 207 2 rfl rfl rfl ?_
  refine p_aload_n 94 208 0 rfl rfl rfl ?_
  refine t_geti (v := .ref (T + 15)) fl_X2_53 95 211 rfl rfl rfl ?_
  refine p_iload_n 96 212 1 rfl rfl rfl ?_
  refine t_iald (d := 15) (f := 16) (v := (σ.2.1 16 (x1 : Int32).toNatClampNeg)) 97 213 rfl rfl td_15 rfl tf_16 b1 rfl ?_
  refine p_icmp_ge 98 216 263 rfl rfl rfl (fun c1 => ?_) (fun c1 => ?_)
  · refine p_aload_n 125 264 0 rfl rfl rfl ?_
    refine p_bipush 126 266 rfl rfl cb_41 ?_
    exact t_cVv lk_X2_162 127 269 rfl rfl (by decide) [.int 41] rfl rfl (Nat.le_of_ble_eq_true rfl) (Nat.le_of_ble_eq_true rfl) (e1 c1) (fun σ1 h => p_sub [] rfl (k1 c1 σ1 h))
  · refine p_iload_n 99 217 2 rfl rfl rfl ?_
    refine p_if_le 100 220 226 rfl rfl rfl (fun c2 => ?_) (fun c2 => ?_)
    · exact k2 c1 c2
    · refine p_aload_n 101 221 0 rfl rfl rfl ?_
      refine p_bipush 102 223 rfl rfl cb_44 ?_
      exact t_cVv lk_X2_162 103 226 rfl rfl (by decide) [.int 44] rfl rfl (Nat.le_of_ble_eq_true rfl) (Nat.le_of_ble_eq_true rfl) (e3 c1 c2) (fun σ1 h => k3 c1 c2 σ1 h)
theorem b_putArgument_226 {G : Gm} {T : Nat} {w : Wd} {σ : TW} {Q : Option Value → TW → Prop} {x1 : Int32} {x2 : Int32} (b1 : vp_in x1 960) (k1 : ¬ (σ.2.1 15 (x1 : Int32).toNatClampNeg) = 4 → Tn G T w mX2_putArgument 242 [(0, .ref T), (1, .int x1), (2, .int x2)] [] σ Q) {Q2 : TW → Prop} (e2 : (σ.2.1 15 (x1 : Int32).toNatClampNeg) = 4 → Tvv G T w mX2_put (.ref T :: [.int 35]) σ Q2) (k2 : (σ.2.1 15 (x1 : Int32).toNatClampNeg) = 4 → ∀ σ2, Q2 σ2 → Tn G T w mX2_putArgument 242 [(0, .ref T), (1, .int x1), (2, .int x2)] [] σ2 Q) : Tn G T w mX2_putArgument 226 [(0, .ref T), (1, .int x1), (2, .int x2)] [] σ Q := by
  refine p_aload_n 104 227 0 rfl rfl rfl ?_
  refine t_geti (v := .ref (T + 14)) fl_X2_50 105 230 rfl rfl rfl ?_
  refine p_iload_n 106 231 1 rfl rfl rfl ?_
  refine t_iald (d := 14) (f := 15) (v := (σ.2.1 15 (x1 : Int32).toNatClampNeg)) 107 232 rfl rfl td_14 rfl tf_15 b1 rfl ?_
  refine p_iconst 108 233 rfl rfl ci_4 ?_
  refine p_icmp_ne 109 236 242 rfl rfl rfl (fun c1 => ?_) (fun c1 => ?_)
  · exact k1 c1
  · refine p_aload_n 110 237 0 rfl rfl rfl ?_
    refine p_bipush 111 239 rfl rfl cb_35 ?_
    exact t_cVv lk_X2_162 112 242 rfl rfl (by decide) [.int 35] rfl rfl (Nat.le_of_ble_eq_true rfl) (Nat.le_of_ble_eq_true rfl) (e2 c1) (fun σ1 h => k2 c1 σ1 h)
theorem b_putArgument_242 {G : Gm} {T : Nat} {w : Wd} {σ : TW} {Q : Option Value → TW → Prop} {x1 : Int32} {x2 : Int32} (b1 : vp_in ((20 * x1) + x2) 19200) {Q1 : TW → Prop} (e1 : Tvv G T w mX2_putNumber (.ref T :: [.int (σ.2.1 17 (((20 * x1) + x2) : Int32).toNatClampNeg)]) σ Q1) (k1 : ∀ σ1, Q1 σ1 → Tn G T w mX2_putArgument 257 [(0, .ref T), (1, .int x1), (2, .int x2)] [] σ1 Q) : Tn G T w mX2_putArgument 242 [(0, .ref T), (1, .int x1), (2, .int x2)] [] σ Q := by
  refine p_aload_n 113 243 0 rfl rfl rfl ?_
  refine p_aload_n 114 244 0 rfl rfl rfl ?_
  refine t_geti (v := .ref (T + 16)) fl_X2_56 115 247 rfl rfl rfl ?_
  refine p_bipush 116 249 rfl rfl cb_20 ?_
  refine p_iload_n 117 250 1 rfl rfl rfl ?_
  refine p_imul 118 251 rfl rfl ?_
  refine p_iload_n 119 252 2 rfl rfl rfl ?_
  refine p_iadd 120 253 rfl rfl ?_
  refine t_iald (d := 16) (f := 17) (v := (σ.2.1 17 (((20 * x1) + x2) : Int32).toNatClampNeg)) 121 254 rfl rfl td_16 rfl tf_17 b1 rfl ?_
  exact t_cVv lk_X2_165 122 257 rfl rfl (by decide) [.int (σ.2.1 17 (((20 * x1) + x2) : Int32).toNatClampNeg)] rfl rfl (Nat.le_of_ble_eq_true rfl) (Nat.le_of_ble_eq_true rfl) (e1 ) (fun σ1 h => k1 σ1 h)
theorem b_putArgument_257 {G : Gm} {T : Nat} {w : Wd} {σ : TW} {Q : Option Value → TW → Prop} {x1 : Int32} {x2 : Int32} (k1 : Tn G T w mX2_putArgument 206 [(0, .ref T), (1, .int x1), (2, .int (x2 + 1))] [] σ Q) : Tn G T w mX2_putArgument 257 [(0, .ref T), (1, .int x1), (2, .int x2)] [] σ Q := by
  refine p_iinc (v := (x2 + 1)) (lv' := [(2, .int (x2 + 1)), (0, .ref T), (1, .int x1)]) 123 260 2 rfl rfl rfl (congrArg (fun z => x2 + z) ci_1) (Nat.le_of_ble_eq_true rfl) rfl ?_
  refine p_goto 124 206 rfl rfl ?_
  exact p_sub [1, 2, 0] rfl (k1 )
theorem b_putArgument_269 {G : Gm} {T : Nat} {w : Wd} {σ : TW} {Q : Option Value → TW → Prop} (k1 : Q none σ) : Tn G T w mX2_putArgument 269 [] [] σ Q := by
  exact t_vret 128 rfl rfl (k1 )
theorem b_keep_0 {G : Gm} {T : Nat} {w : Wd} {σ : TW} {Q : Option Value → TW → Prop} (b1 : vp_in 0 3) (b2 : vp_in 2 3) (k1 : Tn G T w mX2_keep 19 [(0, .ref T), (1, .int 0)] [] (tsA (tsI σ 0 0) 10 (2 : Int32).toNatClampNeg (σ.2.1 10 (0 : Int32).toNatClampNeg)) Q) : Tn G T w mX2_keep 0 [(0, .ref T)] [] σ Q := by
  refine p_aload_n 0 1 0 rfl rfl rfl ?_
  refine p_iconst 1 2 rfl rfl ci_0 ?_
  refine t_puti fl_X2_69 2 5 rfl rfl rfl rfl (by decide) (tws_0 _ _ _) ?_
  refine p_aload_n 3 6 0 rfl rfl rfl ?_
  refine t_geti (v := .ref (T + 9)) fl_X2_35 4 9 rfl rfl rfl ?_
  refine p_iconst 5 10 rfl rfl ci_2 ?_
  refine p_aload_n 6 11 0 rfl rfl rfl ?_
  refine t_geti (v := .ref (T + 9)) fl_X2_35 7 14 rfl rfl rfl ?_
  refine p_iconst 8 15 rfl rfl ci_0 ?_
  refine t_iald (d := 9) (f := 10) (v := (σ.2.1 10 (0 : Int32).toNatClampNeg)) 9 16 rfl rfl td_9 rfl tf_10 b1 rfl ?_
  refine t_iast (d := 9) (f := 10) 10 17 rfl rfl td_9 rfl tf_10 b2 ?_
  refine p_iconst 11 18 rfl rfl ci_0 ?_
  refine p_istore_n (lv' := [(1, .int 0), (0, .ref T)]) 12 19 rfl rfl (Nat.le_of_ble_eq_true rfl) rfl ?_
  exact p_sub [1, 0] rfl (k1 )
theorem b_keep_19 {G : Gm} {T : Nat} {w : Wd} {σ : TW} {Q : Option Value → TW → Prop} {x1 : Int32} (b1 : vp_in 0 3) (b2 : (σ.2.1 10 (0 : Int32).toNatClampNeg) ≤ x1 → vp_in 2 3) (k1 : (σ.2.1 10 (0 : Int32).toNatClampNeg) ≤ x1 → Q (some (.int (σ.2.1 10 (2 : Int32).toNatClampNeg))) σ) {Q2 : TW → Prop} (e2 : ¬ (σ.2.1 10 (0 : Int32).toNatClampNeg) ≤ x1 → Tvv G T w mX2_copy (.ref T :: [.int (80 + x1), .int x1]) σ Q2) (k2 : ¬ (σ.2.1 10 (0 : Int32).toNatClampNeg) ≤ x1 → ∀ σ2, Q2 σ2 → Tn G T w mX2_keep 38 [(0, .ref T), (1, .int x1)] [] σ2 Q) : Tn G T w mX2_keep 19 [(0, .ref T), (1, .int x1)] [] σ Q := by
  refine p_iload_n 13 20 1 rfl rfl rfl ?_
  refine p_aload_n 14 21 0 rfl rfl rfl ?_
  refine t_geti (v := .ref (T + 9)) fl_X2_35 15 24 rfl rfl rfl ?_
  refine p_iconst 16 25 rfl rfl ci_0 ?_
  refine t_iald (d := 9) (f := 10) (v := (σ.2.1 10 (0 : Int32).toNatClampNeg)) 17 26 rfl rfl td_9 rfl tf_10 b1 rfl ?_
  refine p_icmp_ge 18 29 44 rfl rfl rfl (fun c1 => ?_) (fun c1 => ?_)
  · refine p_aload_n 27 45 0 rfl rfl rfl ?_
    refine t_geti (v := .ref (T + 9)) fl_X2_35 28 48 rfl rfl rfl ?_
    refine p_iconst 29 49 rfl rfl ci_2 ?_
    refine t_iald (d := 9) (f := 10) (v := (σ.2.1 10 (2 : Int32).toNatClampNeg)) 30 50 rfl rfl td_9 rfl tf_10 (b2 c1) rfl ?_
    exact t_iret 31 rfl rfl rfl (k1 c1)
  · refine p_aload_n 19 30 0 rfl rfl rfl ?_
    refine p_bipush 20 32 rfl rfl cb_80 ?_
    refine p_iload_n 21 33 1 rfl rfl rfl ?_
    refine p_iadd 22 34 rfl rfl ?_
    refine p_iload_n 23 35 1 rfl rfl rfl ?_
    exact t_cVv lk_X2_155 24 38 rfl rfl (by decide) [.int (80 + x1), .int x1] rfl rfl (Nat.le_of_ble_eq_true rfl) (Nat.le_of_ble_eq_true rfl) (e2 c1) (fun σ1 h => k2 c1 σ1 h)
theorem b_keep_38 {G : Gm} {T : Nat} {w : Wd} {σ : TW} {Q : Option Value → TW → Prop} {x1 : Int32} (k1 : Tn G T w mX2_keep 19 [(0, .ref T), (1, .int (x1 + 1))] [] σ Q) : Tn G T w mX2_keep 38 [(0, .ref T), (1, .int x1)] [] σ Q := by
  refine p_iinc (v := (x1 + 1)) (lv' := [(1, .int (x1 + 1)), (0, .ref T)]) 25 41 1 rfl rfl rfl (congrArg (fun z => x1 + z) ci_1) (Nat.le_of_ble_eq_true rfl) rfl ?_
  refine p_goto 26 19 rfl rfl ?_
  exact p_sub [1, 0] rfl (k1 )
theorem b_line_0 {G : Gm} {T : Nat} {w : Wd} {σ : TW} {Q : Option Value → TW → Prop} {x1 : Int32} {Q1 : Int32 → TW → Prop} (e1 : (0 : Int32) ≤ x1 → Tvi G T w mX2_fails (.ref T :: [.int 0, .int 1]) (tsI σ 0 0) Q1) (k1 : (0 : Int32) ≤ x1 → ∀ (y1 : Int32) σ1, Q1 y1 σ1 → Tn G T w mX2_line 19 [(0, .ref T), (1, .int x1)] [.int y1] σ1 Q) {Q2 : Int32 → TW → Prop} (e2 : ¬ (0 : Int32) ≤ x1 → Tvi G T w mX2_fails (.ref T :: [.int 1, .int 1]) (tsI σ 0 0) Q2) (k2 : ¬ (0 : Int32) ≤ x1 → ∀ (y2 : Int32) σ2, Q2 y2 σ2 → Tn G T w mX2_line 19 [(0, .ref T), (1, .int x1)] [.int y2] σ2 Q) : Tn G T w mX2_line 0 [(0, .ref T), (1, .int x1)] [] σ Q := by
  refine p_aload_n 0 1 0 rfl rfl rfl ?_
  refine p_iconst 1 2 rfl rfl ci_0 ?_
  refine t_puti fl_X2_69 2 5 rfl rfl rfl rfl (by decide) (tws_0 _ _ _) ?_
  refine p_aload_n 3 6 0 rfl rfl rfl ?_
  refine p_iload_n 4 7 1 rfl rfl rfl ?_
  refine p_if_ge 5 10 14 rfl rfl rfl (fun c1 => ?_) (fun c1 => ?_)
  · refine p_iconst 8 15 rfl rfl ci_0 ?_
    refine p_iconst 9 16 rfl rfl ci_1 ?_
    exact t_cVi lk_X2_75 10 19 rfl rfl (by decide) [.int 0, .int 1] rfl rfl (Nat.le_of_ble_eq_true rfl) (Nat.le_of_ble_eq_true rfl) (e1 c1) (fun x σ1 h => k1 c1 x σ1 h)
  · refine p_iconst 6 11 rfl rfl ci_1 ?_
    refine p_goto 7 15 rfl rfl ?_
    refine p_iconst 9 16 rfl rfl ci_1 ?_
    exact t_cVi lk_X2_75 10 19 rfl rfl (by decide) [.int 1, .int 1] rfl rfl (Nat.le_of_ble_eq_true rfl) (Nat.le_of_ble_eq_true rfl) (e2 c1) (fun x σ1 h => k2 c1 x σ1 h)
theorem b_line_19 {G : Gm} {T : Nat} {w : Wd} {σ : TW} {Q : Option Value → TW → Prop} {x1 : Int32} {s0 : Int32} (b1 : s0 = 0 → vp_in 0 3) (k1 : s0 = 0 → (σ.2.1 10 (0 : Int32).toNatClampNeg) ≤ x1 → Q (some (.int (-1))) σ) (b2 : s0 = 0 → ¬ (σ.2.1 10 (0 : Int32).toNatClampNeg) ≤ x1 → vp_in x1 120) (k2 : s0 = 0 → ¬ (σ.2.1 10 (0 : Int32).toNatClampNeg) ≤ x1 → Q (some (.int (σ.2.1 11 (x1 : Int32).toNatClampNeg))) σ) (k3 : ¬ s0 = 0 → Q (some (.int 0)) σ) : Tn G T w mX2_line 19 [(0, .ref T), (1, .int x1)] [.int s0] σ Q := by
  refine p_if_eq 11 22 24 rfl rfl rfl (fun c1 => ?_) (fun c1 => ?_)
  · refine p_iload_n 14 25 1 rfl rfl rfl ?_
    refine p_aload_n 15 26 0 rfl rfl rfl ?_
    refine t_geti (v := .ref (T + 9)) fl_X2_35 16 29 rfl rfl rfl ?_
    refine p_iconst 17 30 rfl rfl ci_0 ?_
    refine t_iald (d := 9) (f := 10) (v := (σ.2.1 10 (0 : Int32).toNatClampNeg)) 18 31 rfl rfl td_9 rfl tf_10 (b1 c1) rfl ?_
    refine p_icmp_ge 19 34 43 rfl rfl rfl (fun c2 => ?_) (fun c2 => ?_)
    · refine p_iconst 25 44 rfl rfl ci_m1 ?_
      exact t_iret 26 rfl rfl rfl (k1 c1 c2)
    · refine p_aload_n 20 35 0 rfl rfl rfl ?_
      refine t_geti (v := .ref (T + 10)) fl_X2_38 21 38 rfl rfl rfl ?_
      refine p_iload_n 22 39 1 rfl rfl rfl ?_
      refine t_iald (d := 10) (f := 11) (v := (σ.2.1 11 (x1 : Int32).toNatClampNeg)) 23 40 rfl rfl td_10 rfl tf_11 (b2 c1 c2) rfl ?_
      refine p_goto 24 44 rfl rfl ?_
      exact t_iret 26 rfl rfl rfl (k2 c1 c2)
  · refine p_iconst 12 23 rfl rfl ci_0 ?_
    exact t_iret 13 rfl rfl rfl (k3 c1)
theorem b_told_0 {G : Gm} {T : Nat} {w : Wd} {σ : TW} {Q : Option Value → TW → Prop} {x1 : Int32} {x2 : Int32} {Q1 : Int32 → TW → Prop} (e1 : Tvi G T w mX2_find (.ref T :: [.int 0, .int x1]) (tsI σ 0 0) Q1) (k1 : ∀ (y1 : Int32) σ1, Q1 y1 σ1 → Tn G T w mX2_told 11 [(0, .ref T), (2, .int x2)] [.int y1] σ1 Q) : Tn G T w mX2_told 0 [(0, .ref T), (1, .int x1), (2, .int x2)] [] σ Q := by
  refine p_aload_n 0 1 0 rfl rfl rfl ?_
  refine p_iconst 1 2 rfl rfl ci_0 ?_
  refine t_puti fl_X2_69 2 5 rfl rfl rfl rfl (by decide) (tws_0 _ _ _) ?_
  refine p_aload_n 3 6 0 rfl rfl rfl ?_
  refine p_iconst 4 7 rfl rfl ci_0 ?_
  refine p_iload_n 5 8 1 rfl rfl rfl ?_
  exact t_cVi lk_X2_143 6 11 rfl rfl (by decide) [.int 0, .int x1] rfl rfl (Nat.le_of_ble_eq_true rfl) (Nat.le_of_ble_eq_true rfl) (e1 ) (fun x σ1 h => p_sub [0, 2] rfl (k1 x σ1 h))
theorem b_told_11 {G : Gm} {T : Nat} {w : Wd} {σ : TW} {Q : Option Value → TW → Prop} {x2 : Int32} {s0 : Int32} {Q1 : Int32 → TW → Prop} (e1 : s0 = (-1) → Tvi G T w mX2_fails (.ref T :: [.int 1, .int 1]) σ Q1) (k1 : s0 = (-1) → ∀ (y1 : Int32) σ1, Q1 y1 σ1 → Tn G T w mX2_told 36 [(0, .ref T), (2, .int x2), (3, .int s0)] [.int y1] σ1 Q) {Q2 : Int32 → TW → Prop} (e2 : ¬ s0 = (-1) → x2 < 0 → Tvi G T w mX2_fails (.ref T :: [.int 1, .int 1]) σ Q2) (k2 : ¬ s0 = (-1) → x2 < 0 → ∀ (y2 : Int32) σ2, Q2 y2 σ2 → Tn G T w mX2_told 36 [(0, .ref T), (2, .int x2), (3, .int s0)] [.int y2] σ2 Q) {Q3 : Int32 → TW → Prop} (e3 : ¬ s0 = (-1) → ¬ x2 < 0 → x2 ≤ 3 → Tvi G T w mX2_fails (.ref T :: [.int 0, .int 1]) σ Q3) (k3 : ¬ s0 = (-1) → ¬ x2 < 0 → x2 ≤ 3 → ∀ (y3 : Int32) σ3, Q3 y3 σ3 → Tn G T w mX2_told 36 [(0, .ref T), (2, .int x2), (3, .int s0)] [.int y3] σ3 Q) {Q4 : Int32 → TW → Prop} (e4 : ¬ s0 = (-1) → ¬ x2 < 0 → ¬ x2 ≤ 3 → Tvi G T w mX2_fails (.ref T :: [.int 1, .int 1]) σ Q4) (k4 : ¬ s0 = (-1) → ¬ x2 < 0 → ¬ x2 ≤ 3 → ∀ (y4 : Int32) σ4, Q4 y4 σ4 → Tn G T w mX2_told 36 [(0, .ref T), (2, .int x2), (3, .int s0)] [.int y4] σ4 Q) : Tn G T w mX2_told 11 [(0, .ref T), (2, .int x2)] [.int s0] σ Q := by
  refine p_istore_n (lv' := [(3, .int s0), (0, .ref T), (2, .int x2)]) 7 12 rfl rfl (Nat.le_of_ble_eq_true rfl) rfl ?_
  refine p_aload_n 8 13 1 rfl rfl rfl ?_
  refine p_iload_n 9 14 0 rfl rfl rfl ?_
  refine p_iconst 10 15 rfl rfl ci_m1 ?_
  refine p_icmp_eq 11 18 27 rfl rfl rfl (fun c1 => ?_) (fun c1 => ?_)
  · refine p_iconst 17 28 rfl rfl ci_1 ?_
    refine p_goto 18 32 rfl rfl ?_
    refine p_iconst 20 33 rfl rfl ci_1 ?_
    exact t_cVi lk_X2_75 21 36 rfl rfl (by decide) [.int 1, .int 1] rfl rfl (Nat.le_of_ble_eq_true rfl) (Nat.le_of_ble_eq_true rfl) (e1 c1) (fun x σ1 h => p_sub [1, 2, 0] rfl (k1 c1 x σ1 h))
  · refine p_iload_n 12 19 2 rfl rfl rfl ?_
    refine p_if_lt 13 22 27 rfl rfl rfl (fun c2 => ?_) (fun c2 => ?_)
    · refine p_iconst 17 28 rfl rfl ci_1 ?_
      refine p_goto 18 32 rfl rfl ?_
      refine p_iconst 20 33 rfl rfl ci_1 ?_
      exact t_cVi lk_X2_75 21 36 rfl rfl (by decide) [.int 1, .int 1] rfl rfl (Nat.le_of_ble_eq_true rfl) (Nat.le_of_ble_eq_true rfl) (e2 c1 c2) (fun x σ1 h => p_sub [1, 2, 0] rfl (k2 c1 c2 x σ1 h))
    · refine p_iload_n 14 23 2 rfl rfl rfl ?_
      refine p_iconst 15 24 rfl rfl ci_3 ?_
      refine p_icmp_le 16 27 31 rfl rfl rfl (fun c3 => ?_) (fun c3 => ?_)
      · refine p_iconst 19 32 rfl rfl ci_0 ?_
        refine p_iconst 20 33 rfl rfl ci_1 ?_
        exact t_cVi lk_X2_75 21 36 rfl rfl (by decide) [.int 0, .int 1] rfl rfl (Nat.le_of_ble_eq_true rfl) (Nat.le_of_ble_eq_true rfl) (e3 c1 c2 c3) (fun x σ1 h => p_sub [1, 2, 0] rfl (k3 c1 c2 c3 x σ1 h))
      · refine p_iconst 17 28 rfl rfl ci_1 ?_
        refine p_goto 18 32 rfl rfl ?_
        refine p_iconst 20 33 rfl rfl ci_1 ?_
        exact t_cVi lk_X2_75 21 36 rfl rfl (by decide) [.int 1, .int 1] rfl rfl (Nat.le_of_ble_eq_true rfl) (Nat.le_of_ble_eq_true rfl) (e4 c1 c2 c3) (fun x σ1 h => p_sub [1, 2, 0] rfl (k4 c1 c2 c3 x σ1 h))
theorem b_told_36 {G : Gm} {T : Nat} {w : Wd} {σ : TW} {Q : Option Value → TW → Prop} {x2 : Int32} {x3 : Int32} {s0 : Int32} {Q1 : TW → Prop} (e1 : s0 = 0 → Tvv G T w mX2_findDepths (.ref T :: []) σ Q1) (k1 : s0 = 0 → ∀ σ1, Q1 σ1 → Tn G T w mX2_told 45 [(0, .ref T), (2, .int x2), (3, .int x3)] [] σ1 Q) (k2 : ¬ s0 = 0 → Q (some (.int 0)) σ) : Tn G T w mX2_told 36 [(0, .ref T), (2, .int x2), (3, .int x3)] [.int s0] σ Q := by
  refine p_if_eq 22 39 41 rfl rfl rfl (fun c1 => ?_) (fun c1 => ?_)
  · refine p_aload_n 25 42 0 rfl rfl rfl ?_
    exact t_cVv lk_X2_180 26 45 rfl rfl (by decide) [] rfl rfl (Nat.le_of_ble_eq_true rfl) (Nat.le_of_ble_eq_true rfl) (e1 c1) (fun σ1 h => k1 c1 σ1 h)
  · refine p_iconst 23 40 rfl rfl ci_0 ?_
    exact t_iret 24 rfl rfl rfl (k2 c1)
theorem b_told_45 {G : Gm} {T : Nat} {w : Wd} {σ : TW} {Q : Option Value → TW → Prop} {x2 : Int32} {x3 : Int32} (b1 : ¬ x2 = 0 → ¬ x2 = 1 → ¬ x2 = 2 → vp_in x3 40) (k1 : ¬ x2 = 0 → ¬ x2 = 1 → ¬ x2 = 2 → Q (some (.int (σ.2.1 21 (x3 : Int32).toNatClampNeg))) σ) {Q2 : Int32 → TW → Prop} (e2 : ¬ x2 = 0 → ¬ x2 = 1 → x2 = 2 → Tvi G T w mX2_referencesOf (.ref T :: [.int x3]) σ Q2) (k2 : ¬ x2 = 0 → ¬ x2 = 1 → x2 = 2 → ∀ (y2 : Int32) σ2, Q2 y2 σ2 → Tn G T w mX2_told 81 [] [.int y2] σ2 Q) (b2 : ¬ x2 = 0 → x2 = 1 → vp_in x3 120) (k3 : ¬ x2 = 0 → x2 = 1 → Q (some (.int (σ.2.1 14 (x3 : Int32).toNatClampNeg))) σ) {Q4 : Int32 → TW → Prop} (e4 : x2 = 0 → Tvi G T w mX2_kindOf (.ref T :: [.int x3]) σ Q4) (k4 : x2 = 0 → ∀ (y4 : Int32) σ4, Q4 y4 σ4 → Tn G T w mX2_told 54 [] [.int y4] σ4 Q) : Tn G T w mX2_told 45 [(0, .ref T), (2, .int x2), (3, .int x3)] [] σ Q := by
  refine p_iload_n 27 46 1 rfl rfl rfl ?_
  refine p_if_ne 28 49 57 rfl rfl rfl (fun c1 => ?_) (fun c1 => ?_)
  · refine p_iload_n 33 58 1 rfl rfl rfl ?_
    refine p_iconst 34 59 rfl rfl ci_1 ?_
    refine p_icmp_ne 35 62 71 rfl rfl rfl (fun c2 => ?_) (fun c2 => ?_)
    · refine p_iload_n 41 72 1 rfl rfl rfl ?_
      refine p_iconst 42 73 rfl rfl ci_2 ?_
      refine p_icmp_ne 43 76 84 rfl rfl rfl (fun c3 => ?_) (fun c3 => ?_)
      · refine p_aload_n 48 85 0 rfl rfl rfl ?_
        refine t_geti (v := .ref (T + 17)) fl_X2_59 49 88 rfl rfl rfl ?_
        refine p_iload_n 50 89 2 rfl rfl rfl ?_
        refine t_iald (d := 17) (f := 21) (v := (σ.2.1 21 (x3 : Int32).toNatClampNeg)) 51 90 rfl rfl td_17 rfl tf_21 (b1 c1 c2 c3) rfl ?_
        exact t_iret 52 rfl rfl rfl (k1 c1 c2 c3)
      · refine p_aload_n 44 77 0 rfl rfl rfl ?_
        refine p_iload_n 45 78 2 rfl rfl rfl ?_
        exact t_cVi lk_X2_186 46 81 rfl rfl (by decide) [.int x3] rfl rfl (Nat.le_of_ble_eq_true rfl) (Nat.le_of_ble_eq_true rfl) (e2 c1 c2 c3) (fun x σ1 h => p_sub [] rfl (k2 c1 c2 c3 x σ1 h))
    · refine p_aload_n 36 63 0 rfl rfl rfl ?_
      refine t_geti (v := .ref (T + 13)) fl_X2_47 37 66 rfl rfl rfl ?_
      refine p_iload_n 38 67 2 rfl rfl rfl ?_
      refine t_iald (d := 13) (f := 14) (v := (σ.2.1 14 (x3 : Int32).toNatClampNeg)) 39 68 rfl rfl td_13 rfl tf_14 (b2 c1 c2) rfl ?_
      refine p_goto 40 90 rfl rfl ?_
      exact t_iret 52 rfl rfl rfl (k3 c1 c2)
  · refine p_aload_n 29 50 0 rfl rfl rfl ?_
    refine p_iload_n 30 51 2 rfl rfl rfl ?_
    exact t_cVi lk_X2_183 31 54 rfl rfl (by decide) [.int x3] rfl rfl (Nat.le_of_ble_eq_true rfl) (Nat.le_of_ble_eq_true rfl) (e4 c1) (fun x σ1 h => p_sub [] rfl (k4 c1 x σ1 h))
theorem b_told_54 {G : Gm} {T : Nat} {w : Wd} {σ : TW} {Q : Option Value → TW → Prop} {s0 : Int32} (k1 : Q (some (.int s0)) σ) : Tn G T w mX2_told 54 [] [.int s0] σ Q := by
  refine p_goto 32 90 rfl rfl ?_
  exact t_iret 52 rfl rfl rfl (k1 )
theorem b_told_81 {G : Gm} {T : Nat} {w : Wd} {σ : TW} {Q : Option Value → TW → Prop} {s0 : Int32} (k1 : Q (some (.int s0)) σ) : Tn G T w mX2_told 81 [] [.int s0] σ Q := by
  refine p_goto 47 90 rfl rfl ?_
  exact t_iret 52 rfl rfl rfl (k1 )
theorem b_findDepths_0 {G : Gm} {T : Nat} {w : Wd} {σ : TW} {Q : Option Value → TW → Prop} {Q1 : TW → Prop} (e1 : Tvv G T w mX2_findWays (.ref T :: []) σ Q1) (k1 : ∀ σ1, Q1 σ1 → Tn G T w mX2_findDepths 4 [(0, .ref T)] [] σ1 Q) : Tn G T w mX2_findDepths 0 [(0, .ref T)] [] σ Q := by
  refine p_aload_n 0 1 0 rfl rfl rfl ?_
  exact t_cVv lk_X2_177 1 4 rfl rfl (by decide) [] rfl rfl (Nat.le_of_ble_eq_true rfl) (Nat.le_of_ble_eq_true rfl) (e1 ) (fun σ1 h => k1 σ1 h)
theorem b_findDepths_4 {G : Gm} {T : Nat} {w : Wd} {σ : TW} {Q : Option Value → TW → Prop} (k1 : Tn G T w mX2_findDepths 6 [(0, .ref T), (1, .int 0)] [] σ Q) : Tn G T w mX2_findDepths 4 [(0, .ref T)] [] σ Q := by
  refine p_iconst 2 5 rfl rfl ci_0 ?_
  refine p_istore_n (lv' := [(1, .int 0), (0, .ref T)]) 3 6 rfl rfl (Nat.le_of_ble_eq_true rfl) rfl ?_
  exact p_sub [1, 0] rfl (k1 )
theorem b_findDepths_6 {G : Gm} {T : Nat} {w : Wd} {σ : TW} {Q : Option Value → TW → Prop} {x1 : Int32} (k1 : (40 : Int32) ≤ x1 → Tn G T w mX2_findDepths 27 [(0, .ref T), (1, .int 1)] [] σ Q) (b1 : ¬ (40 : Int32) ≤ x1 → vp_in x1 40) (k2 : ¬ (40 : Int32) ≤ x1 → Tn G T w mX2_findDepths 6 [(0, .ref T), (1, .int (x1 + 1))] [] (tsA σ 21 (x1 : Int32).toNatClampNeg (-1)) Q) : Tn G T w mX2_findDepths 6 [(0, .ref T), (1, .int x1)] [] σ Q := by
  refine p_iload_n 4 7 1 rfl rfl rfl ?_
  refine p_bipush 5 9 rfl rfl cb_40 ?_
  refine p_icmp_ge 6 12 25 rfl rfl rfl (fun c1 => ?_) (fun c1 => ?_)
  · refine p_iconst 14 26 rfl rfl ci_1 ?_
    refine p_istore_n (lv' := [(1, .int 1), (0, .ref T)]) 15 27 rfl rfl (Nat.le_of_ble_eq_true rfl) rfl ?_
    exact p_sub [1, 0] rfl (k1 c1)
  · refine p_aload_n 7 13 0 rfl rfl rfl ?_
    refine t_geti (v := .ref (T + 17)) fl_X2_59 8 16 rfl rfl rfl ?_
    refine p_iload_n 9 17 1 rfl rfl rfl ?_
    refine p_iconst 10 18 rfl rfl ci_m1 ?_
    refine t_iast (d := 17) (f := 21) 11 19 rfl rfl td_17 rfl tf_21 (b1 c1) ?_
    refine p_iinc (v := (x1 + 1)) (lv' := [(1, .int (x1 + 1)), (0, .ref T)]) 12 22 1 rfl rfl rfl (congrArg (fun z => x1 + z) ci_1) (Nat.le_of_ble_eq_true rfl) rfl ?_
    refine p_goto 13 6 rfl rfl ?_
    exact p_sub [1, 0] rfl (k2 c1)
theorem b_findDepths_27 {G : Gm} {T : Nat} {w : Wd} {σ : TW} {Q : Option Value → TW → Prop} {x1 : Int32} (k1 : x1 = 0 → Q none σ) (k2 : ¬ x1 = 0 → Tn G T w mX2_findDepths 35 [(0, .ref T), (1, .int 0), (2, .int 0)] [] σ Q) : Tn G T w mX2_findDepths 27 [(0, .ref T), (1, .int x1)] [] σ Q := by
  refine p_iload_n 16 28 1 rfl rfl rfl ?_
  refine p_if_eq 17 31 175 rfl rfl rfl (fun c1 => ?_) (fun c1 => ?_)
  · exact t_vret 102 rfl rfl (k1 c1)
  · refine p_iconst 18 32 rfl rfl ci_0 ?_
    refine p_istore_n (lv' := [(1, .int 0), (0, .ref T)]) 19 33 rfl rfl (Nat.le_of_ble_eq_true rfl) rfl ?_
    refine p_iconst 20 34 rfl rfl ci_0 ?_
    refine p_istore_n (lv' := [(2, .int 0), (1, .int 0), (0, .ref T)]) 21 35 rfl rfl (Nat.le_of_ble_eq_true rfl) rfl ?_
    exact p_sub [2, 1, 0] rfl (k2 c1)
theorem b_findDepths_35 {G : Gm} {T : Nat} {w : Wd} {σ : TW} {Q : Option Value → TW → Prop} {x1 : Int32} {x2 : Int32} (b1 : vp_in 0 3) (k1 : (σ.2.1 10 (0 : Int32).toNatClampNeg) ≤ x2 → Tn G T w mX2_findDepths 27 [(0, .ref T), (1, .int x1)] [] σ Q) (b2 : ¬ (σ.2.1 10 (0 : Int32).toNatClampNeg) ≤ x2 → vp_in x2 40) (k2 : ¬ (σ.2.1 10 (0 : Int32).toNatClampNeg) ≤ x2 → (σ.2.1 21 (x2 : Int32).toNatClampNeg) = (-1) → Tn G T w mX2_findDepths 66 [(0, .ref T), (1, .int x1), (2, .int x2), (3, .int 0), (4, .int 1), (5, .int 0)] [] σ Q) (k3 : ¬ (σ.2.1 10 (0 : Int32).toNatClampNeg) ≤ x2 → ¬ (σ.2.1 21 (x2 : Int32).toNatClampNeg) = (-1) → Tn G T w mX2_findDepths 35 [(0, .ref T), (1, .int x1), (2, .int (x2 + 1))] [] σ Q) : Tn G T w mX2_findDepths 35 [(0, .ref T), (1, .int x1), (2, .int x2)] [] σ Q := by
  refine p_iload_n 22 36 2 rfl rfl rfl ?_
  refine p_aload_n 23 37 0 rfl rfl rfl ?_
  refine t_geti (v := .ref (T + 9)) fl_X2_35 24 40 rfl rfl rfl ?_
  refine p_iconst 25 41 rfl rfl ci_0 ?_
  refine t_iald (d := 9) (f := 10) (v := (σ.2.1 10 (0 : Int32).toNatClampNeg)) 26 42 rfl rfl td_9 rfl tf_10 b1 rfl ?_
  refine p_icmp_ge 27 45 172 rfl rfl rfl (fun c1 => ?_) (fun c1 => ?_)
  · refine p_goto 101 27 rfl rfl ?_
    exact p_sub [0, 1] rfl (k1 c1)
  · refine p_aload_n 28 46 0 rfl rfl rfl ?_
    refine t_geti (v := .ref (T + 17)) fl_X2_59 29 49 rfl rfl rfl ?_
    refine p_iload_n 30 50 2 rfl rfl rfl ?_
    refine t_iald (d := 17) (f := 21) (v := (σ.2.1 21 (x2 : Int32).toNatClampNeg)) 31 51 rfl rfl td_17 rfl tf_21 (b2 c1) rfl ?_
    refine p_iconst 32 52 rfl rfl ci_m1 ?_
    refine p_icmp_eq 33 55 58 rfl rfl rfl (fun c2 => ?_) (fun c2 => ?_)
    · refine p_iconst 35 59 rfl rfl ci_0 ?_
      refine p_istore_n (lv' := [(3, .int 0), (0, .ref T), (1, .int x1), (2, .int x2)]) 36 60 rfl rfl (Nat.le_of_ble_eq_true rfl) rfl ?_
      refine p_iconst 37 61 rfl rfl ci_1 ?_
      refine p_istore (lv' := [(4, .int 1), (3, .int 0), (0, .ref T), (1, .int x1), (2, .int x2)]) 38 63 rfl rfl (Nat.le_of_ble_eq_true rfl) rfl ?_
      refine p_iconst 39 64 rfl rfl ci_0 ?_
      refine p_istore (lv' := [(5, .int 0), (4, .int 1), (3, .int 0), (0, .ref T), (1, .int x1), (2, .int x2)]) 40 66 rfl rfl (Nat.le_of_ble_eq_true rfl) rfl ?_
      exact p_sub [3, 4, 5, 2, 1, 0] rfl (k2 c1 c2)
    · refine p_goto 34 166 rfl rfl ?_
      refine p_iinc (v := (x2 + 1)) (lv' := [(2, .int (x2 + 1)), (0, .ref T), (1, .int x1)]) 99 169 2 rfl rfl rfl (congrArg (fun z => x2 + z) ci_1) (Nat.le_of_ble_eq_true rfl) rfl ?_
      refine p_goto 100 35 rfl rfl ?_
      exact p_sub [1, 2, 0] rfl (k3 c1 c2)
theorem b_findDepths_66 {G : Gm} {T : Nat} {w : Wd} {σ : TW} {Q : Option Value → TW → Prop} {x1 : Int32} {x2 : Int32} {x3 : Int32} {x4 : Int32} {x5 : Int32} (b1 : vp_in 0 3) (k1 : (σ.2.1 10 (0 : Int32).toNatClampNeg) ≤ x5 → x4 = 0 → Tn G T w mX2_findDepths 35 [(0, .ref T), (1, .int x1), (2, .int (x2 + 1))] [] σ Q) (b2 : (σ.2.1 10 (0 : Int32).toNatClampNeg) ≤ x5 → ¬ x4 = 0 → vp_in x2 40) (k2 : (σ.2.1 10 (0 : Int32).toNatClampNeg) ≤ x5 → ¬ x4 = 0 → Tn G T w mX2_findDepths 35 [(0, .ref T), (1, .int 1), (2, .int (x2 + 1))] [] (tsA σ 21 (x2 : Int32).toNatClampNeg x3) Q) (b3 : ¬ (σ.2.1 10 (0 : Int32).toNatClampNeg) ≤ x5 → vp_in x2 40) (b4 : ¬ (σ.2.1 10 (0 : Int32).toNatClampNeg) ≤ x5 → ¬ (lg_cmp (((σ.2.2 (x2 : Int32).toNatClampNeg) >>> ((x5 : Int32).toInt64 &&& 63)) &&& 1) 0) = 0 → x4 = 0 → vp_in x5 40) (k3 : ¬ (σ.2.1 10 (0 : Int32).toNatClampNeg) ≤ x5 → ¬ (lg_cmp (((σ.2.2 (x2 : Int32).toNatClampNeg) >>> ((x5 : Int32).toInt64 &&& 63)) &&& 1) 0) = 0 → x4 = 0 → ((σ.2.1 21 (x5 : Int32).toNatClampNeg) + 1) ≤ x3 → Tn G T w mX2_findDepths 66 [(0, .ref T), (1, .int x1), (2, .int x2), (3, .int x3), (4, .int 0), (5, .int (x5 + 1))] [] σ Q) (k4 : ¬ (σ.2.1 10 (0 : Int32).toNatClampNeg) ≤ x5 → ¬ (lg_cmp (((σ.2.2 (x2 : Int32).toNatClampNeg) >>> ((x5 : Int32).toInt64 &&& 63)) &&& 1) 0) = 0 → x4 = 0 → ¬ ((σ.2.1 21 (x5 : Int32).toNatClampNeg) + 1) ≤ x3 → Tn G T w mX2_findDepths 66 [(0, .ref T), (1, .int x1), (2, .int x2), (3, .int ((σ.2.1 21 (x5 : Int32).toNatClampNeg) + 1)), (4, .int 0), (5, .int (x5 + 1))] [] σ Q) (b5 : ¬ (σ.2.1 10 (0 : Int32).toNatClampNeg) ≤ x5 → ¬ (lg_cmp (((σ.2.2 (x2 : Int32).toNatClampNeg) >>> ((x5 : Int32).toInt64 &&& 63)) &&& 1) 0) = 0 → ¬ x4 = 0 → vp_in x5 40) (k5 : ¬ (σ.2.1 10 (0 : Int32).toNatClampNeg) ≤ x5 → ¬ (lg_cmp (((σ.2.2 (x2 : Int32).toNatClampNeg) >>> ((x5 : Int32).toInt64 &&& 63)) &&& 1) 0) = 0 → ¬ x4 = 0 → (σ.2.1 21 (x5 : Int32).toNatClampNeg) = (-1) → ((σ.2.1 21 (x5 : Int32).toNatClampNeg) + 1) ≤ x3 → Tn G T w mX2_findDepths 66 [(0, .ref T), (1, .int x1), (2, .int x2), (3, .int x3), (4, .int 0), (5, .int (x5 + 1))] [] σ Q) (k6 : ¬ (σ.2.1 10 (0 : Int32).toNatClampNeg) ≤ x5 → ¬ (lg_cmp (((σ.2.2 (x2 : Int32).toNatClampNeg) >>> ((x5 : Int32).toInt64 &&& 63)) &&& 1) 0) = 0 → ¬ x4 = 0 → (σ.2.1 21 (x5 : Int32).toNatClampNeg) = (-1) → ¬ ((σ.2.1 21 (x5 : Int32).toNatClampNeg) + 1) ≤ x3 → Tn G T w mX2_findDepths 66 [(0, .ref T), (1, .int x1), (2, .int x2), (3, .int ((σ.2.1 21 (x5 : Int32).toNatClampNeg) + 1)), (4, .int 0), (5, .int (x5 + 1))] [] σ Q) (k7 : ¬ (σ.2.1 10 (0 : Int32).toNatClampNeg) ≤ x5 → ¬ (lg_cmp (((σ.2.2 (x2 : Int32).toNatClampNeg) >>> ((x5 : Int32).toInt64 &&& 63)) &&& 1) 0) = 0 → ¬ x4 = 0 → ¬ (σ.2.1 21 (x5 : Int32).toNatClampNeg) = (-1) → ((σ.2.1 21 (x5 : Int32).toNatClampNeg) + 1) ≤ x3 → Tn G T w mX2_findDepths 66 [(0, .ref T), (1, .int x1), (2, .int x2), (3, .int x3), (4, .int 1), (5, .int (x5 + 1))] [] σ Q) (k8 : ¬ (σ.2.1 10 (0 : Int32).toNatClampNeg) ≤ x5 → ¬ (lg_cmp (((σ.2.2 (x2 : Int32).toNatClampNeg) >>> ((x5 : Int32).toInt64 &&& 63)) &&& 1) 0) = 0 → ¬ x4 = 0 → ¬ (σ.2.1 21 (x5 : Int32).toNatClampNeg) = (-1) → ¬ ((σ.2.1 21 (x5 : Int32).toNatClampNeg) + 1) ≤ x3 → Tn G T w mX2_findDepths 66 [(0, .ref T), (1, .int x1), (2, .int x2), (3, .int ((σ.2.1 21 (x5 : Int32).toNatClampNeg) + 1)), (4, .int 1), (5, .int (x5 + 1))] [] σ Q) (k9 : ¬ (σ.2.1 10 (0 : Int32).toNatClampNeg) ≤ x5 → (lg_cmp (((σ.2.2 (x2 : Int32).toNatClampNeg) >>> ((x5 : Int32).toInt64 &&& 63)) &&& 1) 0) = 0 → Tn G T w mX2_findDepths 66 [(0, .ref T), (1, .int x1), (2, .int x2), (3, .int x3), (4, .int x4), (5, .int (x5 + 1))] [] σ Q) : Tn G T w mX2_findDepths 66 [(0, .ref T), (1, .int x1), (2, .int x2), (3, .int x3), (4, .int x4), (5, .int x5)] [] σ Q := by
  refine p_iload 41 68 5 rfl rfl rfl ?_
  refine p_aload_n 42 69 0 rfl rfl rfl ?_
  refine t_geti (v := .ref (T + 9)) fl_X2_35 43 72 rfl rfl rfl ?_
  refine p_iconst 44 73 rfl rfl ci_0 ?_
  refine t_iald (d := 9) (f := 10) (v := (σ.2.1 10 (0 : Int32).toNatClampNeg)) 45 74 rfl rfl td_9 rfl tf_10 b1 rfl ?_
  refine p_icmp_ge 46 77 152 rfl rfl rfl (fun c1 => ?_) (fun c1 => ?_)
  · refine p_iload 90 154 4 rfl rfl rfl ?_
    refine p_if_eq 91 157 166 rfl rfl rfl (fun c2 => ?_) (fun c2 => ?_)
    · refine p_iinc (v := (x2 + 1)) (lv' := [(2, .int (x2 + 1)), (0, .ref T), (1, .int x1), (3, .int x3), (4, .int x4), (5, .int x5)]) 99 169 2 rfl rfl rfl (congrArg (fun z => x2 + z) ci_1) (Nat.le_of_ble_eq_true rfl) rfl ?_
      refine p_goto 100 35 rfl rfl ?_
      exact p_sub [1, 2, 0] rfl (k1 c1 c2)
    · refine p_aload_n 92 158 0 rfl rfl rfl ?_
      refine t_geti (v := .ref (T + 17)) fl_X2_59 93 161 rfl rfl rfl ?_
      refine p_iload_n 94 162 2 rfl rfl rfl ?_
      refine p_iload_n 95 163 3 rfl rfl rfl ?_
      refine t_iast (d := 17) (f := 21) 96 164 rfl rfl td_17 rfl tf_21 (b2 c1 c2) ?_
      refine p_iconst 97 165 rfl rfl ci_1 ?_
      refine p_istore_n (lv' := [(1, .int 1), (0, .ref T), (2, .int x2), (3, .int x3), (4, .int x4), (5, .int x5)]) 98 166 rfl rfl (Nat.le_of_ble_eq_true rfl) rfl ?_
      refine p_iinc (v := (x2 + 1)) (lv' := [(2, .int (x2 + 1)), (1, .int 1), (0, .ref T), (3, .int x3), (4, .int x4), (5, .int x5)]) 99 169 2 rfl rfl rfl (congrArg (fun z => x2 + z) ci_1) (Nat.le_of_ble_eq_true rfl) rfl ?_
      refine p_goto 100 35 rfl rfl ?_
      exact p_sub [2, 1, 0] rfl (k2 c1 c2)
  · refine p_aload_n 47 78 0 rfl rfl rfl ?_
    refine t_geti (v := .ref (T + 19)) fl_X2_65 48 81 rfl rfl rfl ?_
    refine p_iload_n 49 82 2 rfl rfl rfl ?_
    refine t_lald (v := (σ.2.2 (x2 : Int32).toNatClampNeg)) 50 83 rfl rfl (b3 c1) rfl ?_
    refine p_iload 51 85 5 rfl rfl rfl ?_
    refine p_lshr 52 86 rfl rfl ?_
    refine p_lconst (v := 1) 53 87 rfl rfl rfl ?_
    refine p_land 54 88 rfl rfl ?_
    refine p_lconst (v := 0) 55 89 rfl rfl rfl ?_
    refine p_lcmp 56 90 rfl rfl ?_
    refine p_if_ne 57 93 96 rfl rfl rfl (fun c2 => ?_) (fun c2 => ?_)
    · refine p_iload 59 98 4 rfl rfl rfl ?_
      refine p_if_eq 60 101 116 rfl rfl rfl (fun c3 => ?_) (fun c3 => ?_)
      · refine p_iconst 69 117 rfl rfl ci_0 ?_
        refine p_istore (lv' := [(4, .int 0), (0, .ref T), (1, .int x1), (2, .int x2), (3, .int x3), (5, .int x5)]) 70 119 rfl rfl (Nat.le_of_ble_eq_true rfl) rfl ?_
        refine p_aload_n 71 120 1 rfl rfl rfl ?_
        refine t_geti (v := .ref (T + 17)) fl_X2_59 72 123 rfl rfl rfl ?_
        refine p_iload 73 125 5 rfl rfl rfl ?_
        refine t_iald (d := 17) (f := 21) (v := (σ.2.1 21 (x5 : Int32).toNatClampNeg)) 74 126 rfl rfl td_17 rfl tf_21 (b4 c1 c2 c3) rfl ?_
        refine p_iconst 75 127 rfl rfl ci_1 ?_
        refine p_iadd 76 128 rfl rfl ?_
        refine p_iload_n 77 129 4 rfl rfl rfl ?_
        refine p_icmp_le 78 132 144 rfl rfl rfl (fun c4 => ?_) (fun c4 => ?_)
        · refine p_iload_n 86 145 4 rfl rfl rfl ?_
          refine p_istore_n (lv' := [(3, .int x3), (4, .int 0), (0, .ref T), (1, .int x1), (2, .int x2), (5, .int x5)]) 87 146 rfl rfl (Nat.le_of_ble_eq_true rfl) rfl ?_
          refine p_iinc (v := (x5 + 1)) (lv' := [(5, .int (x5 + 1)), (3, .int x3), (4, .int 0), (0, .ref T), (1, .int x1), (2, .int x2)]) 88 149 5 rfl rfl rfl (congrArg (fun z => x5 + z) ci_1) (Nat.le_of_ble_eq_true rfl) rfl ?_
          refine p_goto 89 66 rfl rfl ?_
          exact p_sub [3, 4, 5, 1, 2, 0] rfl (k3 c1 c2 c3 c4)
        · refine p_aload_n 79 133 1 rfl rfl rfl ?_
          refine t_geti (v := .ref (T + 17)) fl_X2_59 80 136 rfl rfl rfl ?_
          refine p_iload 81 138 5 rfl rfl rfl ?_
          refine t_iald (d := 17) (f := 21) (v := (σ.2.1 21 (x5 : Int32).toNatClampNeg)) 82 139 rfl rfl td_17 rfl tf_21 (b4 c1 c2 c3) rfl ?_
          refine p_iconst 83 140 rfl rfl ci_1 ?_
          refine p_iadd 84 141 rfl rfl ?_
          refine p_goto 85 145 rfl rfl ?_
          refine p_istore_n (lv' := [(3, .int ((σ.2.1 21 (x5 : Int32).toNatClampNeg) + 1)), (4, .int 0), (0, .ref T), (1, .int x1), (2, .int x2), (5, .int x5)]) 87 146 rfl rfl (Nat.le_of_ble_eq_true rfl) rfl ?_
          refine p_iinc (v := (x5 + 1)) (lv' := [(5, .int (x5 + 1)), (3, .int ((σ.2.1 21 (x5 : Int32).toNatClampNeg) + 1)), (4, .int 0), (0, .ref T), (1, .int x1), (2, .int x2)]) 88 149 5 rfl rfl rfl (congrArg (fun z => x5 + z) ci_1) (Nat.le_of_ble_eq_true rfl) rfl ?_
          refine p_goto 89 66 rfl rfl ?_
          exact p_sub [3, 4, 5, 1, 2, 0] rfl (k4 c1 c2 c3 c4)
      · refine p_aload_n 61 102 0 rfl rfl rfl ?_
        refine t_geti (v := .ref (T + 17)) fl_X2_59 62 105 rfl rfl rfl ?_
        refine p_iload 63 107 5 rfl rfl rfl ?_
        refine t_iald (d := 17) (f := 21) (v := (σ.2.1 21 (x5 : Int32).toNatClampNeg)) 64 108 rfl rfl td_17 rfl tf_21 (b5 c1 c2 c3) rfl ?_
        refine p_iconst 65 109 rfl rfl ci_m1 ?_
        refine p_icmp_eq 66 112 116 rfl rfl rfl (fun c4 => ?_) (fun c4 => ?_)
        · refine p_iconst 69 117 rfl rfl ci_0 ?_
          refine p_istore (lv' := [(4, .int 0), (0, .ref T), (1, .int x1), (2, .int x2), (3, .int x3), (5, .int x5)]) 70 119 rfl rfl (Nat.le_of_ble_eq_true rfl) rfl ?_
          refine p_aload_n 71 120 1 rfl rfl rfl ?_
          refine t_geti (v := .ref (T + 17)) fl_X2_59 72 123 rfl rfl rfl ?_
          refine p_iload 73 125 5 rfl rfl rfl ?_
          refine t_iald (d := 17) (f := 21) (v := (σ.2.1 21 (x5 : Int32).toNatClampNeg)) 74 126 rfl rfl td_17 rfl tf_21 (b5 c1 c2 c3) rfl ?_
          refine p_iconst 75 127 rfl rfl ci_1 ?_
          refine p_iadd 76 128 rfl rfl ?_
          refine p_iload_n 77 129 4 rfl rfl rfl ?_
          refine p_icmp_le 78 132 144 rfl rfl rfl (fun c5 => ?_) (fun c5 => ?_)
          · refine p_iload_n 86 145 4 rfl rfl rfl ?_
            refine p_istore_n (lv' := [(3, .int x3), (4, .int 0), (0, .ref T), (1, .int x1), (2, .int x2), (5, .int x5)]) 87 146 rfl rfl (Nat.le_of_ble_eq_true rfl) rfl ?_
            refine p_iinc (v := (x5 + 1)) (lv' := [(5, .int (x5 + 1)), (3, .int x3), (4, .int 0), (0, .ref T), (1, .int x1), (2, .int x2)]) 88 149 5 rfl rfl rfl (congrArg (fun z => x5 + z) ci_1) (Nat.le_of_ble_eq_true rfl) rfl ?_
            refine p_goto 89 66 rfl rfl ?_
            exact p_sub [3, 4, 5, 1, 2, 0] rfl (k5 c1 c2 c3 c4 c5)
          · refine p_aload_n 79 133 1 rfl rfl rfl ?_
            refine t_geti (v := .ref (T + 17)) fl_X2_59 80 136 rfl rfl rfl ?_
            refine p_iload 81 138 5 rfl rfl rfl ?_
            refine t_iald (d := 17) (f := 21) (v := (σ.2.1 21 (x5 : Int32).toNatClampNeg)) 82 139 rfl rfl td_17 rfl tf_21 (b5 c1 c2 c3) rfl ?_
            refine p_iconst 83 140 rfl rfl ci_1 ?_
            refine p_iadd 84 141 rfl rfl ?_
            refine p_goto 85 145 rfl rfl ?_
            refine p_istore_n (lv' := [(3, .int ((σ.2.1 21 (x5 : Int32).toNatClampNeg) + 1)), (4, .int 0), (0, .ref T), (1, .int x1), (2, .int x2), (5, .int x5)]) 87 146 rfl rfl (Nat.le_of_ble_eq_true rfl) rfl ?_
            refine p_iinc (v := (x5 + 1)) (lv' := [(5, .int (x5 + 1)), (3, .int ((σ.2.1 21 (x5 : Int32).toNatClampNeg) + 1)), (4, .int 0), (0, .ref T), (1, .int x1), (2, .int x2)]) 88 149 5 rfl rfl rfl (congrArg (fun z => x5 + z) ci_1) (Nat.le_of_ble_eq_true rfl) rfl ?_
            refine p_goto 89 66 rfl rfl ?_
            exact p_sub [3, 4, 5, 1, 2, 0] rfl (k6 c1 c2 c3 c4 c5)
        · refine p_iconst 67 113 rfl rfl ci_1 ?_
          refine p_goto 68 117 rfl rfl ?_
          refine p_istore (lv' := [(4, .int 1), (0, .ref T), (1, .int x1), (2, .int x2), (3, .int x3), (5, .int x5)]) 70 119 rfl rfl (Nat.le_of_ble_eq_true rfl) rfl ?_
          refine p_aload_n 71 120 1 rfl rfl rfl ?_
          refine t_geti (v := .ref (T + 17)) fl_X2_59 72 123 rfl rfl rfl ?_
          refine p_iload 73 125 5 rfl rfl rfl ?_
          refine t_iald (d := 17) (f := 21) (v := (σ.2.1 21 (x5 : Int32).toNatClampNeg)) 74 126 rfl rfl td_17 rfl tf_21 (b5 c1 c2 c3) rfl ?_
          refine p_iconst 75 127 rfl rfl ci_1 ?_
          refine p_iadd 76 128 rfl rfl ?_
          refine p_iload_n 77 129 4 rfl rfl rfl ?_
          refine p_icmp_le 78 132 144 rfl rfl rfl (fun c5 => ?_) (fun c5 => ?_)
          · refine p_iload_n 86 145 4 rfl rfl rfl ?_
            refine p_istore_n (lv' := [(3, .int x3), (4, .int 1), (0, .ref T), (1, .int x1), (2, .int x2), (5, .int x5)]) 87 146 rfl rfl (Nat.le_of_ble_eq_true rfl) rfl ?_
            refine p_iinc (v := (x5 + 1)) (lv' := [(5, .int (x5 + 1)), (3, .int x3), (4, .int 1), (0, .ref T), (1, .int x1), (2, .int x2)]) 88 149 5 rfl rfl rfl (congrArg (fun z => x5 + z) ci_1) (Nat.le_of_ble_eq_true rfl) rfl ?_
            refine p_goto 89 66 rfl rfl ?_
            exact p_sub [3, 4, 5, 1, 2, 0] rfl (k7 c1 c2 c3 c4 c5)
          · refine p_aload_n 79 133 1 rfl rfl rfl ?_
            refine t_geti (v := .ref (T + 17)) fl_X2_59 80 136 rfl rfl rfl ?_
            refine p_iload 81 138 5 rfl rfl rfl ?_
            refine t_iald (d := 17) (f := 21) (v := (σ.2.1 21 (x5 : Int32).toNatClampNeg)) 82 139 rfl rfl td_17 rfl tf_21 (b5 c1 c2 c3) rfl ?_
            refine p_iconst 83 140 rfl rfl ci_1 ?_
            refine p_iadd 84 141 rfl rfl ?_
            refine p_goto 85 145 rfl rfl ?_
            refine p_istore_n (lv' := [(3, .int ((σ.2.1 21 (x5 : Int32).toNatClampNeg) + 1)), (4, .int 1), (0, .ref T), (1, .int x1), (2, .int x2), (5, .int x5)]) 87 146 rfl rfl (Nat.le_of_ble_eq_true rfl) rfl ?_
            refine p_iinc (v := (x5 + 1)) (lv' := [(5, .int (x5 + 1)), (3, .int ((σ.2.1 21 (x5 : Int32).toNatClampNeg) + 1)), (4, .int 1), (0, .ref T), (1, .int x1), (2, .int x2)]) 88 149 5 rfl rfl rfl (congrArg (fun z => x5 + z) ci_1) (Nat.le_of_ble_eq_true rfl) rfl ?_
            refine p_goto 89 66 rfl rfl ?_
            exact p_sub [3, 4, 5, 1, 2, 0] rfl (k8 c1 c2 c3 c4 c5)
    · refine p_goto 58 146 rfl rfl ?_
      refine p_iinc (v := (x5 + 1)) (lv' := [(5, .int (x5 + 1)), (0, .ref T), (1, .int x1), (2, .int x2), (3, .int x3), (4, .int x4)]) 88 149 5 rfl rfl rfl (congrArg (fun z => x5 + z) ci_1) (Nat.le_of_ble_eq_true rfl) rfl ?_
      refine p_goto 89 66 rfl rfl ?_
      exact p_sub [1, 2, 3, 4, 5, 0] rfl (k9 c1 c2)
theorem b_findWays_0 {G : Gm} {T : Nat} {w : Wd} {σ : TW} {Q : Option Value → TW → Prop} (k1 : Tn G T w mX2_findWays 2 [(0, .ref T), (1, .int 0)] [] σ Q) : Tn G T w mX2_findWays 0 [(0, .ref T)] [] σ Q := by
  refine p_iconst 0 1 rfl rfl ci_0 ?_
  refine p_istore_n (lv' := [(1, .int 0), (0, .ref T)]) 1 2 rfl rfl (Nat.le_of_ble_eq_true rfl) rfl ?_
  exact p_sub [1, 0] rfl (k1 )
theorem b_findWays_2 {G : Gm} {T : Nat} {w : Wd} {σ : TW} {Q : Option Value → TW → Prop} {x1 : Int32} (b1 : vp_in 0 3) (k1 : (σ.2.1 10 (0 : Int32).toNatClampNeg) ≤ x1 → Q none σ) (b2 : ¬ (σ.2.1 10 (0 : Int32).toNatClampNeg) ≤ x1 → vp_in x1 40) (k2 : ¬ (σ.2.1 10 (0 : Int32).toNatClampNeg) ≤ x1 → Tn G T w mX2_findWays 24 [(0, .ref T), (1, .int x1), (2, .int (8 * x1))] [] (tsL σ (x1 : Int32).toNatClampNeg 0) Q) : Tn G T w mX2_findWays 2 [(0, .ref T), (1, .int x1)] [] σ Q := by
  refine p_iload_n 2 3 1 rfl rfl rfl ?_
  refine p_aload_n 3 4 0 rfl rfl rfl ?_
  refine t_geti (v := .ref (T + 9)) fl_X2_35 4 7 rfl rfl rfl ?_
  refine p_iconst 5 8 rfl rfl ci_0 ?_
  refine t_iald (d := 9) (f := 10) (v := (σ.2.1 10 (0 : Int32).toNatClampNeg)) 6 9 rfl rfl td_9 rfl tf_10 b1 rfl ?_
  refine p_icmp_ge 7 12 85 rfl rfl rfl (fun c1 => ?_) (fun c1 => ?_)
  · exact t_vret 53 rfl rfl (k1 c1)
  · refine p_aload_n 8 13 0 rfl rfl rfl ?_
    refine t_geti (v := .ref (T + 19)) fl_X2_65 9 16 rfl rfl rfl ?_
    refine p_iload_n 10 17 1 rfl rfl rfl ?_
    refine p_lconst (v := 0) 11 18 rfl rfl rfl ?_
    refine t_last 12 19 rfl rfl (b2 c1) ?_
    refine p_bipush 13 21 rfl rfl cb_8 ?_
    refine p_iload_n 14 22 1 rfl rfl rfl ?_
    refine p_imul 15 23 rfl rfl ?_
    refine p_istore_n (lv' := [(2, .int (8 * x1)), (0, .ref T), (1, .int x1)]) 16 24 rfl rfl (Nat.le_of_ble_eq_true rfl) rfl ?_
    exact p_sub [1, 2, 0] rfl (k2 c1)
theorem b_findWays_24 {G : Gm} {T : Nat} {w : Wd} {σ : TW} {Q : Option Value → TW → Prop} {x1 : Int32} {x2 : Int32} (b1 : vp_in x1 120) (k1 : ((8 * x1) + (σ.2.1 14 (x1 : Int32).toNatClampNeg)) ≤ x2 → Tn G T w mX2_findWays 2 [(0, .ref T), (1, .int (x1 + 1))] [] σ Q) (k2 : ¬ ((8 * x1) + (σ.2.1 14 (x1 : Int32).toNatClampNeg)) ≤ x2 → Tn G T w mX2_findWays 41 [(0, .ref T), (1, .int x1), (2, .int x2), (3, .int 0)] [] σ Q) : Tn G T w mX2_findWays 24 [(0, .ref T), (1, .int x1), (2, .int x2)] [] σ Q := by
  refine p_iload_n 17 25 2 rfl rfl rfl ?_
  refine p_bipush 18 27 rfl rfl cb_8 ?_
  refine p_iload_n 19 28 1 rfl rfl rfl ?_
  refine p_imul 20 29 rfl rfl ?_
  refine p_aload_n 21 30 0 rfl rfl rfl ?_
  refine t_geti (v := .ref (T + 13)) fl_X2_47 22 33 rfl rfl rfl ?_
  refine p_iload_n 23 34 1 rfl rfl rfl ?_
  refine t_iald (d := 13) (f := 14) (v := (σ.2.1 14 (x1 : Int32).toNatClampNeg)) 24 35 rfl rfl td_13 rfl tf_14 b1 rfl ?_
  refine p_iadd 25 36 rfl rfl ?_
  refine p_icmp_ge 26 39 79 rfl rfl rfl (fun c1 => ?_) (fun c1 => ?_)
  · refine p_iinc (v := (x1 + 1)) (lv' := [(1, .int (x1 + 1)), (0, .ref T), (2, .int x2)]) 51 82 1 rfl rfl rfl (congrArg (fun z => x1 + z) ci_1) (Nat.le_of_ble_eq_true rfl) rfl ?_
    refine p_goto 52 2 rfl rfl ?_
    exact p_sub [1, 0] rfl (k1 c1)
  · refine p_iconst 27 40 rfl rfl ci_0 ?_
    refine p_istore_n (lv' := [(3, .int 0), (0, .ref T), (1, .int x1), (2, .int x2)]) 28 41 rfl rfl (Nat.le_of_ble_eq_true rfl) rfl ?_
    exact p_sub [1, 2, 3, 0] rfl (k2 c1)
theorem b_findWays_41 {G : Gm} {T : Nat} {w : Wd} {σ : TW} {Q : Option Value → TW → Prop} {x1 : Int32} {x2 : Int32} {x3 : Int32} {Q1 : Int32 → TW → Prop} (e1 : Tvi G T w mX2_references (.ref T :: [.int x2]) σ Q1) (k1 : ∀ (y1 : Int32) σ1, Q1 y1 σ1 → Tn G T w mX2_findWays 47 [(0, .ref T), (1, .int x1), (2, .int x2), (3, .int x3)] [.int y1, .int x3] σ1 Q) : Tn G T w mX2_findWays 41 [(0, .ref T), (1, .int x1), (2, .int x2), (3, .int x3)] [] σ Q := by
  refine p_iload_n 29 42 3 rfl rfl rfl ?_
  refine p_aload_n 30 43 0 rfl rfl rfl ?_
  refine p_iload_n 31 44 2 rfl rfl rfl ?_
  exact t_cVi lk_X2_171 32 47 rfl rfl (by decide) [.int x2] rfl rfl (Nat.le_of_ble_eq_true rfl) (Nat.le_of_ble_eq_true rfl) (e1 ) (fun x σ1 h => k1 x σ1 h)
theorem b_findWays_47 {G : Gm} {T : Nat} {w : Wd} {σ : TW} {Q : Option Value → TW → Prop} {x1 : Int32} {x2 : Int32} {x3 : Int32} {s0 : Int32} {s1 : Int32} (k1 : s0 ≤ s1 → Tn G T w mX2_findWays 24 [(0, .ref T), (1, .int x1), (2, .int (x2 + 1))] [] σ Q) (b1 : ¬ s0 ≤ s1 → vp_in x1 40) {Q2 : Int32 → TW → Prop} (e2 : ¬ s0 ≤ s1 → Tvi G T w mX2_referred (.ref T :: [.int x2, .int x3]) σ Q2) (k2 : ¬ s0 ≤ s1 → ∀ (y2 : Int32) σ2, Q2 y2 σ2 → Tn G T w mX2_findWays 64 [(0, .ref T), (1, .int x1), (2, .int x2), (3, .int x3)] [.int y2, .long 1, .long (σ.2.2 (x1 : Int32).toNatClampNeg), .int x1, .ref (T + 19)] σ2 Q) : Tn G T w mX2_findWays 47 [(0, .ref T), (1, .int x1), (2, .int x2), (3, .int x3)] [.int s0, .int s1] σ Q := by
  refine p_icmp_ge 33 50 73 rfl rfl rfl (fun c1 => ?_) (fun c1 => ?_)
  · refine p_iinc (v := (x2 + 1)) (lv' := [(2, .int (x2 + 1)), (0, .ref T), (1, .int x1), (3, .int x3)]) 49 76 2 rfl rfl rfl (congrArg (fun z => x2 + z) ci_1) (Nat.le_of_ble_eq_true rfl) rfl ?_
    refine p_goto 50 24 rfl rfl ?_
    exact p_sub [1, 2, 0] rfl (k1 c1)
  · refine p_aload_n 34 51 0 rfl rfl rfl ?_
    refine t_geti (v := .ref (T + 19)) fl_X2_65 35 54 rfl rfl rfl ?_
    refine p_iload_n 36 55 1 rfl rfl rfl ?_
    refine p_dup2 37 56 rfl rfl rfl rfl ?_
    refine t_lald (v := (σ.2.2 (x1 : Int32).toNatClampNeg)) 38 57 rfl rfl (b1 c1) rfl ?_
    refine p_lconst (v := 1) 39 58 rfl rfl rfl ?_
    refine p_aload_n 40 59 0 rfl rfl rfl ?_
    refine p_iload_n 41 60 2 rfl rfl rfl ?_
    refine p_iload_n 42 61 3 rfl rfl rfl ?_
    exact t_cVi lk_X2_174 43 64 rfl rfl (by decide) [.int x2, .int x3] rfl rfl (Nat.le_of_ble_eq_true rfl) (Nat.le_of_ble_eq_true rfl) (e2 c1) (fun x σ1 h => k2 c1 x σ1 h)
theorem b_findWays_64 {G : Gm} {T : Nat} {w : Wd} {σ : TW} {Q : Option Value → TW → Prop} {x1 : Int32} {x2 : Int32} {x3 : Int32} {s0 : Int32} {s1 : Int64} {s2 : Int64} {s3 : Int32} (b1 : vp_in s3 40) (k1 : Tn G T w mX2_findWays 41 [(0, .ref T), (1, .int x1), (2, .int x2), (3, .int (x3 + 1))] [] (tsL σ (s3 : Int32).toNatClampNeg (s2 ||| (s1 <<< ((s0 : Int32).toInt64 &&& 63)))) Q) : Tn G T w mX2_findWays 64 [(0, .ref T), (1, .int x1), (2, .int x2), (3, .int x3)] [.int s0, .long s1, .long s2, .int s3, .ref (T + 19)] σ Q := by
  refine p_lshl 44 65 rfl rfl ?_
  refine p_lor 45 66 rfl rfl ?_
  refine t_last 46 67 rfl rfl b1 ?_
  refine p_iinc (v := (x3 + 1)) (lv' := [(3, .int (x3 + 1)), (0, .ref T), (1, .int x1), (2, .int x2)]) 47 70 3 rfl rfl rfl (congrArg (fun z => x3 + z) ci_1) (Nat.le_of_ble_eq_true rfl) rfl ?_
  refine p_goto 48 41 rfl rfl ?_
  exact p_sub [1, 2, 3, 0] rfl (k1 )
theorem b_references_0 {G : Gm} {T : Nat} {w : Wd} {σ : TW} {Q : Option Value → TW → Prop} {x1 : Int32} (b1 : vp_in x1 960) (k1 : ¬ (σ.2.1 15 (x1 : Int32).toNatClampNeg) = 2 → ¬ (σ.2.1 15 (x1 : Int32).toNatClampNeg) = 4 → Q (some (.int 0)) σ) (k2 : ¬ (σ.2.1 15 (x1 : Int32).toNatClampNeg) = 2 → (σ.2.1 15 (x1 : Int32).toNatClampNeg) = 4 → Q (some (.int (σ.2.1 16 (x1 : Int32).toNatClampNeg))) σ) (k3 : (σ.2.1 15 (x1 : Int32).toNatClampNeg) = 2 → Q (some (.int 1)) σ) : Tn G T w mX2_references 0 [(0, .ref T), (1, .int x1)] [] σ Q := by
  refine p_aload_n 0 1 0 rfl rfl rfl ?_
  refine t_geti (v := .ref (T + 14)) fl_X2_50 1 4 rfl rfl rfl ?_
  refine p_iload_n 2 5 1 rfl rfl rfl ?_
  refine t_iald (d := 14) (f := 15) (v := (σ.2.1 15 (x1 : Int32).toNatClampNeg)) 3 6 rfl rfl td_14 rfl tf_15 b1 rfl ?_
  refine p_iconst 4 7 rfl rfl ci_2 ?_
  refine p_icmp_ne 5 10 14 rfl rfl rfl (fun c1 => ?_) (fun c1 => ?_)
  · refine p_aload_n 8 15 0 rfl rfl rfl ?_
    refine t_geti (v := .ref (T + 14)) fl_X2_50 9 18 rfl rfl rfl ?_
    refine p_iload_n 10 19 1 rfl rfl rfl ?_
    refine t_iald (d := 14) (f := 15) (v := (σ.2.1 15 (x1 : Int32).toNatClampNeg)) 11 20 rfl rfl td_14 rfl tf_15 b1 rfl ?_
    refine p_iconst 12 21 rfl rfl ci_4 ?_
    refine p_icmp_ne 13 24 33 rfl rfl rfl (fun c2 => ?_) (fun c2 => ?_)
    · refine p_iconst 19 34 rfl rfl ci_0 ?_
      exact t_iret 20 rfl rfl rfl (k1 c1 c2)
    · refine p_aload_n 14 25 0 rfl rfl rfl ?_
      refine t_geti (v := .ref (T + 15)) fl_X2_53 15 28 rfl rfl rfl ?_
      refine p_iload_n 16 29 1 rfl rfl rfl ?_
      refine t_iald (d := 15) (f := 16) (v := (σ.2.1 16 (x1 : Int32).toNatClampNeg)) 17 30 rfl rfl td_15 rfl tf_16 b1 rfl ?_
      refine p_goto 18 34 rfl rfl ?_
      exact t_iret 20 rfl rfl rfl (k2 c1 c2)
  · refine p_iconst 6 11 rfl rfl ci_1 ?_
    refine p_goto 7 34 rfl rfl ?_
    exact t_iret 20 rfl rfl rfl (k3 c1)
theorem b_referred_0 {G : Gm} {T : Nat} {w : Wd} {σ : TW} {Q : Option Value → TW → Prop} {x1 : Int32} {x2 : Int32} (b1 : vp_in x1 960) (b2 : ¬ (σ.2.1 15 (x1 : Int32).toNatClampNeg) = 2 → vp_in ((20 * x1) + x2) 19200) {Q1 : Int32 → TW → Prop} (e1 : ¬ (σ.2.1 15 (x1 : Int32).toNatClampNeg) = 2 → Tvi G T w mX2_find (.ref T :: [.int 0, .int (σ.2.1 17 (((20 * x1) + x2) : Int32).toNatClampNeg)]) σ Q1) (k1 : ¬ (σ.2.1 15 (x1 : Int32).toNatClampNeg) = 2 → ∀ (y1 : Int32) σ1, Q1 y1 σ1 → Tn G T w mX2_referred 35 [] [.int y1] σ1 Q) {Q2 : Int32 → TW → Prop} (e2 : (σ.2.1 15 (x1 : Int32).toNatClampNeg) = 2 → Tvi G T w mX2_find (.ref T :: [.int 0, .int (σ.2.1 16 (x1 : Int32).toNatClampNeg)]) σ Q2) (k2 : (σ.2.1 15 (x1 : Int32).toNatClampNeg) = 2 → ∀ (y2 : Int32) σ2, Q2 y2 σ2 → Tn G T w mX2_referred 35 [] [.int y2] σ2 Q) : Tn G T w mX2_referred 0 [(0, .ref T), (1, .int x1), (2, .int x2)] [] σ Q := by
  refine p_aload_n 0 1 0 rfl rfl rfl ?_
  refine p_iconst 1 2 rfl rfl ci_0 ?_
  refine p_aload_n 2 3 0 rfl rfl rfl ?_
  refine t_geti (v := .ref (T + 14)) fl_X2_50 3 6 rfl rfl rfl ?_
  refine p_iload_n 4 7 1 rfl rfl rfl ?_
  refine t_iald (d := 14) (f := 15) (v := (σ.2.1 15 (x1 : Int32).toNatClampNeg)) 5 8 rfl rfl td_14 rfl tf_15 b1 rfl ?_
  refine p_iconst 6 9 rfl rfl ci_2 ?_
  refine p_icmp_ne 7 12 21 rfl rfl rfl (fun c1 => ?_) (fun c1 => ?_)
  · refine p_aload_n 13 22 0 rfl rfl rfl ?_
    refine t_geti (v := .ref (T + 16)) fl_X2_56 14 25 rfl rfl rfl ?_
    refine p_bipush 15 27 rfl rfl cb_20 ?_
    refine p_iload_n 16 28 1 rfl rfl rfl ?_
    refine p_imul 17 29 rfl rfl ?_
    refine p_iload_n 18 30 2 rfl rfl rfl ?_
    refine p_iadd 19 31 rfl rfl ?_
    refine t_iald (d := 16) (f := 17) (v := (σ.2.1 17 (((20 * x1) + x2) : Int32).toNatClampNeg)) 20 32 rfl rfl td_16 rfl tf_17 (b2 c1) rfl ?_
    exact t_cVi lk_X2_143 21 35 rfl rfl (by decide) [.int 0, .int (σ.2.1 17 (((20 * x1) + x2) : Int32).toNatClampNeg)] rfl rfl (Nat.le_of_ble_eq_true rfl) (Nat.le_of_ble_eq_true rfl) (e1 c1) (fun x σ1 h => p_sub [] rfl (k1 c1 x σ1 h))
  · refine p_aload_n 8 13 0 rfl rfl rfl ?_
    refine t_geti (v := .ref (T + 15)) fl_X2_53 9 16 rfl rfl rfl ?_
    refine p_iload_n 10 17 1 rfl rfl rfl ?_
    refine t_iald (d := 15) (f := 16) (v := (σ.2.1 16 (x1 : Int32).toNatClampNeg)) 11 18 rfl rfl td_15 rfl tf_16 b1 rfl ?_
    refine p_goto 12 32 rfl rfl ?_
    exact t_cVi lk_X2_143 21 35 rfl rfl (by decide) [.int 0, .int (σ.2.1 16 (x1 : Int32).toNatClampNeg)] rfl rfl (Nat.le_of_ble_eq_true rfl) (Nat.le_of_ble_eq_true rfl) (e2 c1) (fun x σ1 h => p_sub [] rfl (k2 c1 x σ1 h))
theorem b_referred_35 {G : Gm} {T : Nat} {w : Wd} {σ : TW} {Q : Option Value → TW → Prop} {s0 : Int32} (k1 : Q (some (.int s0)) σ) : Tn G T w mX2_referred 35 [] [.int s0] σ Q := by
  exact t_iret 22 rfl rfl rfl (k1 )
theorem b_kindOf_0 {G : Gm} {T : Nat} {w : Wd} {σ : TW} {Q : Option Value → TW → Prop} {x1 : Int32} (k1 : Tn G T w mX2_kindOf 2 [(0, .ref T), (1, .int x1), (2, .int 0)] [] σ Q) : Tn G T w mX2_kindOf 0 [(0, .ref T), (1, .int x1)] [] σ Q := by
  refine p_iconst 0 1 rfl rfl ci_0 ?_
  refine p_istore_n (lv' := [(2, .int 0), (0, .ref T), (1, .int x1)]) 1 2 rfl rfl (Nat.le_of_ble_eq_true rfl) rfl ?_
  exact p_sub [1, 2, 0] rfl (k1 )
theorem b_kindOf_2 {G : Gm} {T : Nat} {w : Wd} {σ : TW} {Q : Option Value → TW → Prop} {x1 : Int32} {x2 : Int32} (b1 : vp_in 0 2) (k1 : (σ.2.1 4 (0 : Int32).toNatClampNeg) ≤ x2 → Q (some (.int (-1))) σ) (b2 : ¬ (σ.2.1 4 (0 : Int32).toNatClampNeg) ≤ x2 → vp_in x2 24) (b3 : ¬ (σ.2.1 4 (0 : Int32).toNatClampNeg) ≤ x2 → vp_in x1 120) (k2 : ¬ (σ.2.1 4 (0 : Int32).toNatClampNeg) ≤ x2 → ¬ (σ.2.1 5 (x2 : Int32).toNatClampNeg) = (σ.2.1 12 (x1 : Int32).toNatClampNeg) → Tn G T w mX2_kindOf 2 [(0, .ref T), (1, .int x1), (2, .int (x2 + 1))] [] σ Q) {Q3 : Int32 → TW → Prop} (e3 : ¬ (σ.2.1 4 (0 : Int32).toNatClampNeg) ≤ x2 → (σ.2.1 5 (x2 : Int32).toNatClampNeg) = (σ.2.1 12 (x1 : Int32).toNatClampNeg) → Tvi G T w mX2_isSame [.ref (T + 5), .int (8 * x2), .ref (T + 12), .int (8 * x1), .int (σ.2.1 12 (x1 : Int32).toNatClampNeg)] σ Q3) (k3 : ¬ (σ.2.1 4 (0 : Int32).toNatClampNeg) ≤ x2 → (σ.2.1 5 (x2 : Int32).toNatClampNeg) = (σ.2.1 12 (x1 : Int32).toNatClampNeg) → ∀ (y3 : Int32) σ3, Q3 y3 σ3 → Tn G T w mX2_kindOf 52 [(0, .ref T), (1, .int x1), (2, .int x2)] [.int y3] σ3 Q) : Tn G T w mX2_kindOf 2 [(0, .ref T), (1, .int x1), (2, .int x2)] [] σ Q := by
  refine p_iload_n 2 3 2 rfl rfl rfl ?_
  refine p_aload_n 3 4 0 rfl rfl rfl ?_
  refine t_geti (v := .ref (T + 3)) fl_X2_16 4 7 rfl rfl rfl ?_
  refine p_iconst 5 8 rfl rfl ci_0 ?_
  refine t_iald (d := 3) (f := 4) (v := (σ.2.1 4 (0 : Int32).toNatClampNeg)) 6 9 rfl rfl td_3 rfl tf_4 b1 rfl ?_
  refine p_icmp_ge 7 12 63 rfl rfl rfl (fun c1 => ?_) (fun c1 => ?_)
  · refine p_iconst 37 64 rfl rfl ci_m1 ?_
    exact t_iret 38 rfl rfl rfl (k1 c1)
  · refine p_aload_n 8 13 0 rfl rfl rfl ?_
    refine t_geti (v := .ref (T + 4)) fl_X2_19 9 16 rfl rfl rfl ?_
    refine p_iload_n 10 17 2 rfl rfl rfl ?_
    refine t_iald (d := 4) (f := 5) (v := (σ.2.1 5 (x2 : Int32).toNatClampNeg)) 11 18 rfl rfl td_4 rfl tf_5 (b2 c1) rfl ?_
    refine p_aload_n 12 19 0 rfl rfl rfl ?_
    refine t_geti (v := .ref (T + 11)) fl_X2_41 13 22 rfl rfl rfl ?_
    refine p_iload_n 14 23 1 rfl rfl rfl ?_
    refine t_iald (d := 11) (f := 12) (v := (σ.2.1 12 (x1 : Int32).toNatClampNeg)) 15 24 rfl rfl td_11 rfl tf_12 (b3 c1) rfl ?_
    refine p_icmp_ne 16 27 57 rfl rfl rfl (fun c2 => ?_) (fun c2 => ?_)
    · refine p_iinc (v := (x2 + 1)) (lv' := [(2, .int (x2 + 1)), (0, .ref T), (1, .int x1)]) 35 60 2 rfl rfl rfl (congrArg (fun z => x2 + z) ci_1) (Nat.le_of_ble_eq_true rfl) rfl ?_
      refine p_goto 36 2 rfl rfl ?_
      exact p_sub [1, 2, 0] rfl (k2 c1 c2)
    · refine p_aload_n 17 28 0 rfl rfl rfl ?_
      refine t_geti (v := .ref (T + 5)) fl_X2_22 18 31 rfl rfl rfl ?_
      refine p_bipush 19 33 rfl rfl cb_8 ?_
      refine p_iload_n 20 34 2 rfl rfl rfl ?_
      refine p_imul 21 35 rfl rfl ?_
      refine p_aload_n 22 36 0 rfl rfl rfl ?_
      refine t_geti (v := .ref (T + 12)) fl_X2_44 23 39 rfl rfl rfl ?_
      refine p_bipush 24 41 rfl rfl cb_8 ?_
      refine p_iload_n 25 42 1 rfl rfl rfl ?_
      refine p_imul 26 43 rfl rfl ?_
      refine p_aload_n 27 44 0 rfl rfl rfl ?_
      refine t_geti (v := .ref (T + 11)) fl_X2_41 28 47 rfl rfl rfl ?_
      refine p_iload_n 29 48 1 rfl rfl rfl ?_
      refine t_iald (d := 11) (f := 12) (v := (σ.2.1 12 (x1 : Int32).toNatClampNeg)) 30 49 rfl rfl td_11 rfl tf_12 (b3 c1) rfl ?_
      exact t_cTi lk_X2_117 31 52 rfl rfl (by decide) [.ref (T + 5), .int (8 * x2), .ref (T + 12), .int (8 * x1), .int (σ.2.1 12 (x1 : Int32).toNatClampNeg)] rfl rfl (Nat.le_of_ble_eq_true rfl) (Nat.le_of_ble_eq_true rfl) (e3 c1 c2) (fun x σ1 h => k3 c1 c2 x σ1 h)
theorem b_kindOf_52 {G : Gm} {T : Nat} {w : Wd} {σ : TW} {Q : Option Value → TW → Prop} {x1 : Int32} {x2 : Int32} {s0 : Int32} (k1 : s0 = 0 → Tn G T w mX2_kindOf 2 [(0, .ref T), (1, .int x1), (2, .int (x2 + 1))] [] σ Q) (k2 : ¬ s0 = 0 → Q (some (.int x2)) σ) : Tn G T w mX2_kindOf 52 [(0, .ref T), (1, .int x1), (2, .int x2)] [.int s0] σ Q := by
  refine p_if_eq 32 55 57 rfl rfl rfl (fun c1 => ?_) (fun c1 => ?_)
  · refine p_iinc (v := (x2 + 1)) (lv' := [(2, .int (x2 + 1)), (0, .ref T), (1, .int x1)]) 35 60 2 rfl rfl rfl (congrArg (fun z => x2 + z) ci_1) (Nat.le_of_ble_eq_true rfl) rfl ?_
    refine p_goto 36 2 rfl rfl ?_
    exact p_sub [1, 2, 0] rfl (k1 c1)
  · refine p_iload_n 33 56 2 rfl rfl rfl ?_
    exact t_iret 34 rfl rfl rfl (k2 c1)
theorem b_referencesOf_0 {G : Gm} {T : Nat} {w : Wd} {σ : TW} {Q : Option Value → TW → Prop} {x1 : Int32} (k1 : Tn G T w mX2_referencesOf 7 [(0, .ref T), (1, .int x1), (2, .int 0), (3, .int (8 * x1))] [] σ Q) : Tn G T w mX2_referencesOf 0 [(0, .ref T), (1, .int x1)] [] σ Q := by
  refine p_iconst 0 1 rfl rfl ci_0 ?_
  refine p_istore_n (lv' := [(2, .int 0), (0, .ref T), (1, .int x1)]) 1 2 rfl rfl (Nat.le_of_ble_eq_true rfl) rfl ?_
  refine p_bipush 2 4 rfl rfl cb_8 ?_
  refine p_iload_n 3 5 2 rfl rfl rfl ?_
  refine p_imul 4 6 rfl rfl ?_
  refine p_istore_n (lv' := [(3, .int (8 * x1)), (2, .int 0), (0, .ref T), (1, .int x1)]) 5 7 rfl rfl (Nat.le_of_ble_eq_true rfl) rfl ?_
  exact p_sub [2, 3, 1, 0] rfl (k1 )
theorem b_referencesOf_7 {G : Gm} {T : Nat} {w : Wd} {σ : TW} {Q : Option Value → TW → Prop} {x1 : Int32} {x2 : Int32} {x3 : Int32} (b1 : vp_in x1 120) (k1 : ((8 * x1) + (σ.2.1 14 (x1 : Int32).toNatClampNeg)) ≤ x3 → Q (some (.int x2)) σ) {Q2 : Int32 → TW → Prop} (e2 : ¬ ((8 * x1) + (σ.2.1 14 (x1 : Int32).toNatClampNeg)) ≤ x3 → Tvi G T w mX2_references (.ref T :: [.int x3]) σ Q2) (k2 : ¬ ((8 * x1) + (σ.2.1 14 (x1 : Int32).toNatClampNeg)) ≤ x3 → ∀ (y2 : Int32) σ2, Q2 y2 σ2 → Tn G T w mX2_referencesOf 28 [(0, .ref T), (1, .int x1), (3, .int x3)] [.int y2, .int x2] σ2 Q) : Tn G T w mX2_referencesOf 7 [(0, .ref T), (1, .int x1), (2, .int x2), (3, .int x3)] [] σ Q := by
  refine p_iload_n 6 8 3 rfl rfl rfl ?_
  refine p_bipush 7 10 rfl rfl cb_8 ?_
  refine p_iload_n 8 11 1 rfl rfl rfl ?_
  refine p_imul 9 12 rfl rfl ?_
  refine p_aload_n 10 13 0 rfl rfl rfl ?_
  refine t_geti (v := .ref (T + 13)) fl_X2_47 11 16 rfl rfl rfl ?_
  refine p_iload_n 12 17 1 rfl rfl rfl ?_
  refine t_iald (d := 13) (f := 14) (v := (σ.2.1 14 (x1 : Int32).toNatClampNeg)) 13 18 rfl rfl td_13 rfl tf_14 b1 rfl ?_
  refine p_iadd 14 19 rfl rfl ?_
  refine p_icmp_ge 15 22 36 rfl rfl rfl (fun c1 => ?_) (fun c1 => ?_)
  · refine p_iload_n 24 37 2 rfl rfl rfl ?_
    exact t_iret 25 rfl rfl rfl (k1 c1)
  · refine p_iload_n 16 23 2 rfl rfl rfl ?_
    refine p_aload_n 17 24 0 rfl rfl rfl ?_
    refine p_iload_n 18 25 3 rfl rfl rfl ?_
    exact t_cVi lk_X2_171 19 28 rfl rfl (by decide) [.int x3] rfl rfl (Nat.le_of_ble_eq_true rfl) (Nat.le_of_ble_eq_true rfl) (e2 c1) (fun x σ1 h => p_sub [0, 1, 3] rfl (k2 c1 x σ1 h))
theorem b_referencesOf_28 {G : Gm} {T : Nat} {w : Wd} {σ : TW} {Q : Option Value → TW → Prop} {x1 : Int32} {x3 : Int32} {s0 : Int32} {s1 : Int32} (k1 : Tn G T w mX2_referencesOf 7 [(0, .ref T), (1, .int x1), (2, .int (s1 + s0)), (3, .int (x3 + 1))] [] σ Q) : Tn G T w mX2_referencesOf 28 [(0, .ref T), (1, .int x1), (3, .int x3)] [.int s0, .int s1] σ Q := by
  refine p_iadd 20 29 rfl rfl ?_
  refine p_istore_n (lv' := [(2, .int (s1 + s0)), (0, .ref T), (1, .int x1), (3, .int x3)]) 21 30 rfl rfl (Nat.le_of_ble_eq_true rfl) rfl ?_
  refine p_iinc (v := (x3 + 1)) (lv' := [(3, .int (x3 + 1)), (2, .int (s1 + s0)), (0, .ref T), (1, .int x1)]) 22 33 3 rfl rfl rfl (congrArg (fun z => x3 + z) ci_1) (Nat.le_of_ble_eq_true rfl) rfl ?_
  refine p_goto 23 7 rfl rfl ?_
  exact p_sub [2, 3, 1, 0] rfl (k1 )
theorem b_argument_2_0 {G : Gm} {T : Nat} {w : Wd} {σ : TW} {Q : Option Value → TW → Prop} {x1 : Int32} {x2 : Int32} {x3 : Int32} {Q1 : Int32 → TW → Prop} (e1 : Tvi G T w mX2_argumentAt (.ref T :: [.int x1, .int x2]) (tsI σ 0 0) Q1) (k1 : ∀ (y1 : Int32) σ1, Q1 y1 σ1 → Tn G T w mX2_argument_2 11 [(0, .ref T), (3, .int x3)] [.int y1] σ1 Q) : Tn G T w mX2_argument_2 0 [(0, .ref T), (1, .int x1), (2, .int x2), (3, .int x3)] [] σ Q := by
  refine p_aload_n 0 1 0 rfl rfl rfl ?_
  refine p_iconst 1 2 rfl rfl ci_0 ?_
  refine t_puti fl_X2_69 2 5 rfl rfl rfl rfl (by decide) (tws_0 _ _ _) ?_
  refine p_aload_n 3 6 0 rfl rfl rfl ?_
  refine p_iload_n 4 7 1 rfl rfl rfl ?_
  refine p_iload_n 5 8 2 rfl rfl rfl ?_
  exact t_cVi lk_X2_189 6 11 rfl rfl (by decide) [.int x1, .int x2] rfl rfl (Nat.le_of_ble_eq_true rfl) (Nat.le_of_ble_eq_true rfl) (e1 ) (fun x σ1 h => p_sub [0, 3] rfl (k1 x σ1 h))
theorem b_argument_2_11 {G : Gm} {T : Nat} {w : Wd} {σ : TW} {Q : Option Value → TW → Prop} {x3 : Int32} {s0 : Int32} {Q1 : Int32 → TW → Prop} (e1 : s0 = (-1) → Tvi G T w mX2_fails (.ref T :: [.int 1, .int 1]) σ Q1) (k1 : s0 = (-1) → ∀ (y1 : Int32) σ1, Q1 y1 σ1 → Tn G T w mX2_argument_2 38 [(0, .ref T), (3, .int x3), (4, .int s0)] [.int y1] σ1 Q) {Q2 : Int32 → TW → Prop} (e2 : ¬ s0 = (-1) → x3 < 0 → Tvi G T w mX2_fails (.ref T :: [.int 1, .int 1]) σ Q2) (k2 : ¬ s0 = (-1) → x3 < 0 → ∀ (y2 : Int32) σ2, Q2 y2 σ2 → Tn G T w mX2_argument_2 38 [(0, .ref T), (3, .int x3), (4, .int s0)] [.int y2] σ2 Q) {Q3 : Int32 → TW → Prop} (e3 : ¬ s0 = (-1) → ¬ x3 < 0 → x3 ≤ 1 → Tvi G T w mX2_fails (.ref T :: [.int 0, .int 1]) σ Q3) (k3 : ¬ s0 = (-1) → ¬ x3 < 0 → x3 ≤ 1 → ∀ (y3 : Int32) σ3, Q3 y3 σ3 → Tn G T w mX2_argument_2 38 [(0, .ref T), (3, .int x3), (4, .int s0)] [.int y3] σ3 Q) {Q4 : Int32 → TW → Prop} (e4 : ¬ s0 = (-1) → ¬ x3 < 0 → ¬ x3 ≤ 1 → Tvi G T w mX2_fails (.ref T :: [.int 1, .int 1]) σ Q4) (k4 : ¬ s0 = (-1) → ¬ x3 < 0 → ¬ x3 ≤ 1 → ∀ (y4 : Int32) σ4, Q4 y4 σ4 → Tn G T w mX2_argument_2 38 [(0, .ref T), (3, .int x3), (4, .int s0)] [.int y4] σ4 Q) : Tn G T w mX2_argument_2 11 [(0, .ref T), (3, .int x3)] [.int s0] σ Q := by
  refine p_istore (lv' := [(4, .int s0), (0, .ref T), (3, .int x3)]) 7 13 rfl rfl (Nat.le_of_ble_eq_true rfl) rfl ?_
  refine p_aload_n 8 14 1 rfl rfl rfl ?_
  refine p_iload 9 16 0 rfl rfl rfl ?_
  refine p_iconst 10 17 rfl rfl ci_m1 ?_
  refine p_icmp_eq 11 20 29 rfl rfl rfl (fun c1 => ?_) (fun c1 => ?_)
  · refine p_iconst 17 30 rfl rfl ci_1 ?_
    refine p_goto 18 34 rfl rfl ?_
    refine p_iconst 20 35 rfl rfl ci_1 ?_
    exact t_cVi lk_X2_75 21 38 rfl rfl (by decide) [.int 1, .int 1] rfl rfl (Nat.le_of_ble_eq_true rfl) (Nat.le_of_ble_eq_true rfl) (e1 c1) (fun x σ1 h => p_sub [1, 2, 0] rfl (k1 c1 x σ1 h))
  · refine p_iload_n 12 21 2 rfl rfl rfl ?_
    refine p_if_lt 13 24 29 rfl rfl rfl (fun c2 => ?_) (fun c2 => ?_)
    · refine p_iconst 17 30 rfl rfl ci_1 ?_
      refine p_goto 18 34 rfl rfl ?_
      refine p_iconst 20 35 rfl rfl ci_1 ?_
      exact t_cVi lk_X2_75 21 38 rfl rfl (by decide) [.int 1, .int 1] rfl rfl (Nat.le_of_ble_eq_true rfl) (Nat.le_of_ble_eq_true rfl) (e2 c1 c2) (fun x σ1 h => p_sub [1, 2, 0] rfl (k2 c1 c2 x σ1 h))
    · refine p_iload_n 14 25 2 rfl rfl rfl ?_
      refine p_iconst 15 26 rfl rfl ci_1 ?_
      refine p_icmp_le 16 29 33 rfl rfl rfl (fun c3 => ?_) (fun c3 => ?_)
      · refine p_iconst 19 34 rfl rfl ci_0 ?_
        refine p_iconst 20 35 rfl rfl ci_1 ?_
        exact t_cVi lk_X2_75 21 38 rfl rfl (by decide) [.int 0, .int 1] rfl rfl (Nat.le_of_ble_eq_true rfl) (Nat.le_of_ble_eq_true rfl) (e3 c1 c2 c3) (fun x σ1 h => p_sub [1, 2, 0] rfl (k3 c1 c2 c3 x σ1 h))
      · refine p_iconst 17 30 rfl rfl ci_1 ?_
        refine p_goto 18 34 rfl rfl ?_
        refine p_iconst 20 35 rfl rfl ci_1 ?_
        exact t_cVi lk_X2_75 21 38 rfl rfl (by decide) [.int 1, .int 1] rfl rfl (Nat.le_of_ble_eq_true rfl) (Nat.le_of_ble_eq_true rfl) (e4 c1 c2 c3) (fun x σ1 h => p_sub [1, 2, 0] rfl (k4 c1 c2 c3 x σ1 h))
theorem b_argument_2_38 {G : Gm} {T : Nat} {w : Wd} {σ : TW} {Q : Option Value → TW → Prop} {x3 : Int32} {x4 : Int32} {s0 : Int32} (b1 : s0 = 0 → ¬ x3 = 0 → vp_in x4 960) (k1 : s0 = 0 → ¬ x3 = 0 → Q (some (.int (σ.2.1 16 (x4 : Int32).toNatClampNeg))) σ) (b2 : s0 = 0 → x3 = 0 → vp_in x4 960) (k2 : s0 = 0 → x3 = 0 → Q (some (.int (σ.2.1 15 (x4 : Int32).toNatClampNeg))) σ) (k3 : ¬ s0 = 0 → Q (some (.int 0)) σ) : Tn G T w mX2_argument_2 38 [(0, .ref T), (3, .int x3), (4, .int x4)] [.int s0] σ Q := by
  refine p_if_eq 22 41 43 rfl rfl rfl (fun c1 => ?_) (fun c1 => ?_)
  · refine p_iload_n 25 44 1 rfl rfl rfl ?_
    refine p_if_ne 26 47 57 rfl rfl rfl (fun c2 => ?_) (fun c2 => ?_)
    · refine p_aload_n 32 58 0 rfl rfl rfl ?_
      refine t_geti (v := .ref (T + 15)) fl_X2_53 33 61 rfl rfl rfl ?_
      refine p_iload 34 63 2 rfl rfl rfl ?_
      refine t_iald (d := 15) (f := 16) (v := (σ.2.1 16 (x4 : Int32).toNatClampNeg)) 35 64 rfl rfl td_15 rfl tf_16 (b1 c1 c2) rfl ?_
      exact t_iret 36 rfl rfl rfl (k1 c1 c2)
    · refine p_aload_n 27 48 0 rfl rfl rfl ?_
      refine t_geti (v := .ref (T + 14)) fl_X2_50 28 51 rfl rfl rfl ?_
      refine p_iload 29 53 2 rfl rfl rfl ?_
      refine t_iald (d := 14) (f := 15) (v := (σ.2.1 15 (x4 : Int32).toNatClampNeg)) 30 54 rfl rfl td_14 rfl tf_15 (b2 c1 c2) rfl ?_
      refine p_goto 31 64 rfl rfl ?_
      exact t_iret 36 rfl rfl rfl (k2 c1 c2)
  · refine p_iconst 23 42 rfl rfl ci_0 ?_
    exact t_iret 24 rfl rfl rfl (k3 c1)
theorem b_argumentAt_0 {G : Gm} {T : Nat} {w : Wd} {σ : TW} {Q : Option Value → TW → Prop} {x1 : Int32} {x2 : Int32} {Q1 : Int32 → TW → Prop} (e1 : Tvi G T w mX2_find (.ref T :: [.int 0, .int x1]) σ Q1) (k1 : ∀ (y1 : Int32) σ1, Q1 y1 σ1 → Tn G T w mX2_argumentAt 6 [(0, .ref T), (2, .int x2)] [.int y1] σ1 Q) : Tn G T w mX2_argumentAt 0 [(0, .ref T), (1, .int x1), (2, .int x2)] [] σ Q := by
  refine p_aload_n 0 1 0 rfl rfl rfl ?_
  refine p_iconst 1 2 rfl rfl ci_0 ?_
  refine p_iload_n 2 3 1 rfl rfl rfl ?_
  exact t_cVi lk_X2_143 3 6 rfl rfl (by decide) [.int 0, .int x1] rfl rfl (Nat.le_of_ble_eq_true rfl) (Nat.le_of_ble_eq_true rfl) (e1 ) (fun x σ1 h => p_sub [0, 2] rfl (k1 x σ1 h))
theorem b_argumentAt_6 {G : Gm} {T : Nat} {w : Wd} {σ : TW} {Q : Option Value → TW → Prop} {x2 : Int32} {s0 : Int32} (k1 : s0 = (-1) → Q (some (.int (-1))) σ) (k2 : ¬ s0 = (-1) → x2 < 0 → Q (some (.int (-1))) σ) (b1 : ¬ s0 = (-1) → ¬ x2 < 0 → vp_in s0 120) (k3 : ¬ s0 = (-1) → ¬ x2 < 0 → x2 < (σ.2.1 14 (s0 : Int32).toNatClampNeg) → Q (some (.int ((8 * s0) + x2))) σ) (k4 : ¬ s0 = (-1) → ¬ x2 < 0 → ¬ x2 < (σ.2.1 14 (s0 : Int32).toNatClampNeg) → Q (some (.int (-1))) σ) : Tn G T w mX2_argumentAt 6 [(0, .ref T), (2, .int x2)] [.int s0] σ Q := by
  refine p_istore_n (lv' := [(3, .int s0), (0, .ref T), (2, .int x2)]) 4 7 rfl rfl (Nat.le_of_ble_eq_true rfl) rfl ?_
  refine p_iload_n 5 8 0 rfl rfl rfl ?_
  refine p_iconst 6 9 rfl rfl ci_m1 ?_
  refine p_icmp_eq 7 12 26 rfl rfl rfl (fun c1 => ?_) (fun c1 => ?_)
  · refine p_iconst 16 27 rfl rfl ci_m1 ?_
    refine p_goto 17 36 rfl rfl ?_
    exact t_iret 23 rfl rfl rfl (k1 c1)
  · refine p_iload_n 8 13 2 rfl rfl rfl ?_
    refine p_if_lt 9 16 26 rfl rfl rfl (fun c2 => ?_) (fun c2 => ?_)
    · refine p_iconst 16 27 rfl rfl ci_m1 ?_
      refine p_goto 17 36 rfl rfl ?_
      exact t_iret 23 rfl rfl rfl (k2 c1 c2)
    · refine p_iload_n 10 17 2 rfl rfl rfl ?_
      refine p_aload_n 11 18 1 rfl rfl rfl ?_
      refine t_geti (v := .ref (T + 13)) fl_X2_47 12 21 rfl rfl rfl ?_
      refine p_iload_n 13 22 0 rfl rfl rfl ?_
      refine t_iald (d := 13) (f := 14) (v := (σ.2.1 14 (s0 : Int32).toNatClampNeg)) 14 23 rfl rfl td_13 rfl tf_14 (b1 c1 c2) rfl ?_
      refine p_icmp_lt 15 26 30 rfl rfl rfl (fun c3 => ?_) (fun c3 => ?_)
      · refine p_bipush 18 32 rfl rfl cb_8 ?_
        refine p_iload_n 19 33 0 rfl rfl rfl ?_
        refine p_imul 20 34 rfl rfl ?_
        refine p_iload_n 21 35 2 rfl rfl rfl ?_
        refine p_iadd 22 36 rfl rfl ?_
        exact t_iret 23 rfl rfl rfl (k3 c1 c2 c3)
      · refine p_iconst 16 27 rfl rfl ci_m1 ?_
        refine p_goto 17 36 rfl rfl ?_
        exact t_iret 23 rfl rfl rfl (k4 c1 c2 c3)
theorem b_item_0 {G : Gm} {T : Nat} {w : Wd} {σ : TW} {Q : Option Value → TW → Prop} {x1 : Int32} {x2 : Int32} {x3 : Int32} {Q1 : Int32 → TW → Prop} (e1 : Tvi G T w mX2_argumentAt (.ref T :: [.int x1, .int x2]) (tsI σ 0 0) Q1) (k1 : ∀ (y1 : Int32) σ1, Q1 y1 σ1 → Tn G T w mX2_item 11 [(0, .ref T), (3, .int x3)] [.int y1] σ1 Q) : Tn G T w mX2_item 0 [(0, .ref T), (1, .int x1), (2, .int x2), (3, .int x3)] [] σ Q := by
  refine p_aload_n 0 1 0 rfl rfl rfl ?_
  refine p_iconst 1 2 rfl rfl ci_0 ?_
  refine t_puti fl_X2_69 2 5 rfl rfl rfl rfl (by decide) (tws_0 _ _ _) ?_
  refine p_aload_n 3 6 0 rfl rfl rfl ?_
  refine p_iload_n 4 7 1 rfl rfl rfl ?_
  refine p_iload_n 5 8 2 rfl rfl rfl ?_
  exact t_cVi lk_X2_189 6 11 rfl rfl (by decide) [.int x1, .int x2] rfl rfl (Nat.le_of_ble_eq_true rfl) (Nat.le_of_ble_eq_true rfl) (e1 ) (fun x σ1 h => p_sub [0, 3] rfl (k1 x σ1 h))
theorem b_item_11 {G : Gm} {T : Nat} {w : Wd} {σ : TW} {Q : Option Value → TW → Prop} {x3 : Int32} {s0 : Int32} {Q1 : Int32 → TW → Prop} (e1 : s0 = (-1) → Tvi G T w mX2_fails (.ref T :: [.int 1, .int 1]) σ Q1) (k1 : s0 = (-1) → ∀ (y1 : Int32) σ1, Q1 y1 σ1 → Tn G T w mX2_item 89 [(0, .ref T), (3, .int x3), (4, .int s0)] [.int y1] σ1 Q) (b1 : ¬ s0 = (-1) → vp_in s0 960) {Q2 : Int32 → TW → Prop} (e2 : ¬ s0 = (-1) → (σ.2.1 15 (s0 : Int32).toNatClampNeg) = 0 → Tvi G T w mX2_fails (.ref T :: [.int 1, .int 1]) σ Q2) (k2 : ¬ s0 = (-1) → (σ.2.1 15 (s0 : Int32).toNatClampNeg) = 0 → ∀ (y2 : Int32) σ2, Q2 y2 σ2 → Tn G T w mX2_item 89 [(0, .ref T), (3, .int x3), (4, .int s0)] [.int y2] σ2 Q) {Q3 : Int32 → TW → Prop} (e3 : ¬ s0 = (-1) → ¬ (σ.2.1 15 (s0 : Int32).toNatClampNeg) = 0 → (σ.2.1 15 (s0 : Int32).toNatClampNeg) = 2 → Tvi G T w mX2_fails (.ref T :: [.int 1, .int 1]) σ Q3) (k3 : ¬ s0 = (-1) → ¬ (σ.2.1 15 (s0 : Int32).toNatClampNeg) = 0 → (σ.2.1 15 (s0 : Int32).toNatClampNeg) = 2 → ∀ (y3 : Int32) σ3, Q3 y3 σ3 → Tn G T w mX2_item 89 [(0, .ref T), (3, .int x3), (4, .int s0)] [.int y3] σ3 Q) {Q4 : Int32 → TW → Prop} (e4 : ¬ s0 = (-1) → ¬ (σ.2.1 15 (s0 : Int32).toNatClampNeg) = 0 → ¬ (σ.2.1 15 (s0 : Int32).toNatClampNeg) = 2 → (σ.2.1 15 (s0 : Int32).toNatClampNeg) = 6 → Tvi G T w mX2_fails (.ref T :: [.int 1, .int 1]) σ Q4) (k4 : ¬ s0 = (-1) → ¬ (σ.2.1 15 (s0 : Int32).toNatClampNeg) = 0 → ¬ (σ.2.1 15 (s0 : Int32).toNatClampNeg) = 2 → (σ.2.1 15 (s0 : Int32).toNatClampNeg) = 6 → ∀ (y4 : Int32) σ4, Q4 y4 σ4 → Tn G T w mX2_item 89 [(0, .ref T), (3, .int x3), (4, .int s0)] [.int y4] σ4 Q) {Q5 : Int32 → TW → Prop} (e5 : ¬ s0 = (-1) → ¬ (σ.2.1 15 (s0 : Int32).toNatClampNeg) = 0 → ¬ (σ.2.1 15 (s0 : Int32).toNatClampNeg) = 2 → ¬ (σ.2.1 15 (s0 : Int32).toNatClampNeg) = 6 → x3 < 0 → Tvi G T w mX2_fails (.ref T :: [.int 1, .int 1]) σ Q5) (k5 : ¬ s0 = (-1) → ¬ (σ.2.1 15 (s0 : Int32).toNatClampNeg) = 0 → ¬ (σ.2.1 15 (s0 : Int32).toNatClampNeg) = 2 → ¬ (σ.2.1 15 (s0 : Int32).toNatClampNeg) = 6 → x3 < 0 → ∀ (y5 : Int32) σ5, Q5 y5 σ5 → Tn G T w mX2_item 89 [(0, .ref T), (3, .int x3), (4, .int s0)] [.int y5] σ5 Q) {Q6 : Int32 → TW → Prop} (e6 : ¬ s0 = (-1) → ¬ (σ.2.1 15 (s0 : Int32).toNatClampNeg) = 0 → ¬ (σ.2.1 15 (s0 : Int32).toNatClampNeg) = 2 → ¬ (σ.2.1 15 (s0 : Int32).toNatClampNeg) = 6 → ¬ x3 < 0 → x3 < (σ.2.1 16 (s0 : Int32).toNatClampNeg) → Tvi G T w mX2_fails (.ref T :: [.int 0, .int 1]) σ Q6) (k6 : ¬ s0 = (-1) → ¬ (σ.2.1 15 (s0 : Int32).toNatClampNeg) = 0 → ¬ (σ.2.1 15 (s0 : Int32).toNatClampNeg) = 2 → ¬ (σ.2.1 15 (s0 : Int32).toNatClampNeg) = 6 → ¬ x3 < 0 → x3 < (σ.2.1 16 (s0 : Int32).toNatClampNeg) → ∀ (y6 : Int32) σ6, Q6 y6 σ6 → Tn G T w mX2_item 89 [(0, .ref T), (3, .int x3), (4, .int s0)] [.int y6] σ6 Q) {Q7 : Int32 → TW → Prop} (e7 : ¬ s0 = (-1) → ¬ (σ.2.1 15 (s0 : Int32).toNatClampNeg) = 0 → ¬ (σ.2.1 15 (s0 : Int32).toNatClampNeg) = 2 → ¬ (σ.2.1 15 (s0 : Int32).toNatClampNeg) = 6 → ¬ x3 < 0 → ¬ x3 < (σ.2.1 16 (s0 : Int32).toNatClampNeg) → Tvi G T w mX2_fails (.ref T :: [.int 1, .int 1]) σ Q7) (k7 : ¬ s0 = (-1) → ¬ (σ.2.1 15 (s0 : Int32).toNatClampNeg) = 0 → ¬ (σ.2.1 15 (s0 : Int32).toNatClampNeg) = 2 → ¬ (σ.2.1 15 (s0 : Int32).toNatClampNeg) = 6 → ¬ x3 < 0 → ¬ x3 < (σ.2.1 16 (s0 : Int32).toNatClampNeg) → ∀ (y7 : Int32) σ7, Q7 y7 σ7 → Tn G T w mX2_item 89 [(0, .ref T), (3, .int x3), (4, .int s0)] [.int y7] σ7 Q) : Tn G T w mX2_item 11 [(0, .ref T), (3, .int x3)] [.int s0] σ Q := by
  refine p_istore (lv' := [(4, .int s0), (0, .ref T), (3, .int x3)]) 7 13 rfl rfl (Nat.le_of_ble_eq_true rfl) rfl ?_
  refine p_iload 8 15 0 rfl rfl rfl ?_
  refine p_iconst 9 16 rfl rfl ci_m1 ?_
  refine p_icmp_eq 10 19 56 rfl rfl rfl (fun c1 => ?_) (fun c1 => ?_)
  · refine p_iconst 30 57 rfl rfl ci_0 ?_
    refine p_istore (lv' := [(5, .int 0), (4, .int s0), (0, .ref T), (3, .int x3)]) 31 59 rfl rfl (Nat.le_of_ble_eq_true rfl) rfl ?_
    refine p_aload_n 32 60 2 rfl rfl rfl ?_
    refine p_iload 33 62 0 rfl rfl rfl ?_
    refine p_if_eq 34 65 80 rfl rfl rfl (fun _ => ?_) (fun c => absurd c (by decide))
    refine p_iconst 43 81 rfl rfl ci_1 ?_
    refine p_goto 44 85 rfl rfl ?_
    refine p_iconst 46 86 rfl rfl ci_1 ?_
    exact t_cVi lk_X2_75 47 89 rfl rfl (by decide) [.int 1, .int 1] rfl rfl (Nat.le_of_ble_eq_true rfl) (Nat.le_of_ble_eq_true rfl) (e1 c1) (fun x σ1 h => p_sub [2, 3, 1] rfl (k1 c1 x σ1 h))
  · refine p_aload_n 11 20 1 rfl rfl rfl ?_
    refine t_geti (v := .ref (T + 14)) fl_X2_50 12 23 rfl rfl rfl ?_
    refine p_iload 13 25 0 rfl rfl rfl ?_
    refine t_iald (d := 14) (f := 15) (v := (σ.2.1 15 (s0 : Int32).toNatClampNeg)) 14 26 rfl rfl td_14 rfl tf_15 (b1 c1) rfl ?_
    refine p_if_eq 15 29 56 rfl rfl rfl (fun c2 => ?_) (fun c2 => ?_)
    · refine p_iconst 30 57 rfl rfl ci_0 ?_
      refine p_istore (lv' := [(5, .int 0), (4, .int s0), (0, .ref T), (3, .int x3)]) 31 59 rfl rfl (Nat.le_of_ble_eq_true rfl) rfl ?_
      refine p_aload_n 32 60 2 rfl rfl rfl ?_
      refine p_iload 33 62 0 rfl rfl rfl ?_
      refine p_if_eq 34 65 80 rfl rfl rfl (fun _ => ?_) (fun c => absurd c (by decide))
      refine p_iconst 43 81 rfl rfl ci_1 ?_
      refine p_goto 44 85 rfl rfl ?_
      refine p_iconst 46 86 rfl rfl ci_1 ?_
      exact t_cVi lk_X2_75 47 89 rfl rfl (by decide) [.int 1, .int 1] rfl rfl (Nat.le_of_ble_eq_true rfl) (Nat.le_of_ble_eq_true rfl) (e2 c1 c2) (fun x σ1 h => p_sub [2, 3, 1] rfl (k2 c1 c2 x σ1 h))
    · refine p_aload_n 16 30 1 rfl rfl rfl ?_
      refine t_geti (v := .ref (T + 14)) fl_X2_50 17 33 rfl rfl rfl ?_
      refine p_iload 18 35 0 rfl rfl rfl ?_
      refine t_iald (d := 14) (f := 15) (v := (σ.2.1 15 (s0 : Int32).toNatClampNeg)) 19 36 rfl rfl td_14 rfl tf_15 (b1 c1) rfl ?_
      refine p_iconst 20 37 rfl rfl ci_2 ?_
      refine p_icmp_eq 21 40 56 rfl rfl rfl (fun c3 => ?_) (fun c3 => ?_)
      · refine p_iconst 30 57 rfl rfl ci_0 ?_
        refine p_istore (lv' := [(5, .int 0), (4, .int s0), (0, .ref T), (3, .int x3)]) 31 59 rfl rfl (Nat.le_of_ble_eq_true rfl) rfl ?_
        refine p_aload_n 32 60 2 rfl rfl rfl ?_
        refine p_iload 33 62 0 rfl rfl rfl ?_
        refine p_if_eq 34 65 80 rfl rfl rfl (fun _ => ?_) (fun c => absurd c (by decide))
        refine p_iconst 43 81 rfl rfl ci_1 ?_
        refine p_goto 44 85 rfl rfl ?_
        refine p_iconst 46 86 rfl rfl ci_1 ?_
        exact t_cVi lk_X2_75 47 89 rfl rfl (by decide) [.int 1, .int 1] rfl rfl (Nat.le_of_ble_eq_true rfl) (Nat.le_of_ble_eq_true rfl) (e3 c1 c2 c3) (fun x σ1 h => p_sub [2, 3, 1] rfl (k3 c1 c2 c3 x σ1 h))
      · refine p_aload_n 22 41 1 rfl rfl rfl ?_
        refine t_geti (v := .ref (T + 14)) fl_X2_50 23 44 rfl rfl rfl ?_
        refine p_iload 24 46 0 rfl rfl rfl ?_
        refine t_iald (d := 14) (f := 15) (v := (σ.2.1 15 (s0 : Int32).toNatClampNeg)) 25 47 rfl rfl td_14 rfl tf_15 (b1 c1) rfl ?_
        refine p_bipush 26 49 rfl rfl cb_6 ?_
        refine p_icmp_eq 27 52 56 rfl rfl rfl (fun c4 => ?_) (fun c4 => ?_)
        · refine p_iconst 30 57 rfl rfl ci_0 ?_
          refine p_istore (lv' := [(5, .int 0), (4, .int s0), (0, .ref T), (3, .int x3)]) 31 59 rfl rfl (Nat.le_of_ble_eq_true rfl) rfl ?_
          refine p_aload_n 32 60 2 rfl rfl rfl ?_
          refine p_iload 33 62 0 rfl rfl rfl ?_
          refine p_if_eq 34 65 80 rfl rfl rfl (fun _ => ?_) (fun c => absurd c (by decide))
          refine p_iconst 43 81 rfl rfl ci_1 ?_
          refine p_goto 44 85 rfl rfl ?_
          refine p_iconst 46 86 rfl rfl ci_1 ?_
          exact t_cVi lk_X2_75 47 89 rfl rfl (by decide) [.int 1, .int 1] rfl rfl (Nat.le_of_ble_eq_true rfl) (Nat.le_of_ble_eq_true rfl) (e4 c1 c2 c3 c4) (fun x σ1 h => p_sub [2, 3, 1] rfl (k4 c1 c2 c3 c4 x σ1 h))
        · refine p_iconst 28 53 rfl rfl ci_1 ?_
          refine p_goto 29 57 rfl rfl ?_
          refine p_istore (lv' := [(5, .int 1), (4, .int s0), (0, .ref T), (3, .int x3)]) 31 59 rfl rfl (Nat.le_of_ble_eq_true rfl) rfl ?_
          refine p_aload_n 32 60 2 rfl rfl rfl ?_
          refine p_iload 33 62 0 rfl rfl rfl ?_
          refine p_if_eq 34 65 80 rfl rfl rfl (fun c => absurd c (by decide)) (fun _ => ?_)
          refine p_iload_n 35 66 3 rfl rfl rfl ?_
          refine p_if_lt 36 69 80 rfl rfl rfl (fun c5 => ?_) (fun c5 => ?_)
          · refine p_iconst 43 81 rfl rfl ci_1 ?_
            refine p_goto 44 85 rfl rfl ?_
            refine p_iconst 46 86 rfl rfl ci_1 ?_
            exact t_cVi lk_X2_75 47 89 rfl rfl (by decide) [.int 1, .int 1] rfl rfl (Nat.le_of_ble_eq_true rfl) (Nat.le_of_ble_eq_true rfl) (e5 c1 c2 c3 c4 c5) (fun x σ1 h => p_sub [2, 3, 1] rfl (k5 c1 c2 c3 c4 c5 x σ1 h))
          · refine p_iload_n 37 70 3 rfl rfl rfl ?_
            refine p_aload_n 38 71 2 rfl rfl rfl ?_
            refine t_geti (v := .ref (T + 15)) fl_X2_53 39 74 rfl rfl rfl ?_
            refine p_iload 40 76 1 rfl rfl rfl ?_
            refine t_iald (d := 15) (f := 16) (v := (σ.2.1 16 (s0 : Int32).toNatClampNeg)) 41 77 rfl rfl td_15 rfl tf_16 (b1 c1) rfl ?_
            refine p_icmp_lt 42 80 84 rfl rfl rfl (fun c6 => ?_) (fun c6 => ?_)
            · refine p_iconst 45 85 rfl rfl ci_0 ?_
              refine p_iconst 46 86 rfl rfl ci_1 ?_
              exact t_cVi lk_X2_75 47 89 rfl rfl (by decide) [.int 0, .int 1] rfl rfl (Nat.le_of_ble_eq_true rfl) (Nat.le_of_ble_eq_true rfl) (e6 c1 c2 c3 c4 c5 c6) (fun x σ1 h => p_sub [2, 3, 1] rfl (k6 c1 c2 c3 c4 c5 c6 x σ1 h))
            · refine p_iconst 43 81 rfl rfl ci_1 ?_
              refine p_goto 44 85 rfl rfl ?_
              refine p_iconst 46 86 rfl rfl ci_1 ?_
              exact t_cVi lk_X2_75 47 89 rfl rfl (by decide) [.int 1, .int 1] rfl rfl (Nat.le_of_ble_eq_true rfl) (Nat.le_of_ble_eq_true rfl) (e7 c1 c2 c3 c4 c5 c6) (fun x σ1 h => p_sub [2, 3, 1] rfl (k7 c1 c2 c3 c4 c5 c6 x σ1 h))
theorem b_item_89 {G : Gm} {T : Nat} {w : Wd} {σ : TW} {Q : Option Value → TW → Prop} {x3 : Int32} {x4 : Int32} {s0 : Int32} (b1 : s0 = 0 → vp_in ((20 * x4) + x3) 19200) (k1 : s0 = 0 → Q (some (.int (σ.2.1 17 (((20 * x4) + x3) : Int32).toNatClampNeg))) σ) (k2 : ¬ s0 = 0 → Q (some (.int 0)) σ) : Tn G T w mX2_item 89 [(0, .ref T), (3, .int x3), (4, .int x4)] [.int s0] σ Q := by
  refine p_if_eq 48 92 94 rfl rfl rfl (fun c1 => ?_) (fun c1 => ?_)
  · refine p_aload_n 51 95 0 rfl rfl rfl ?_
    refine t_geti (v := .ref (T + 16)) fl_X2_56 52 98 rfl rfl rfl ?_
    refine p_bipush 53 100 rfl rfl cb_20 ?_
    refine p_iload 54 102 2 rfl rfl rfl ?_
    refine p_imul 55 103 rfl rfl ?_
    refine p_iload_n 56 104 1 rfl rfl rfl ?_
    refine p_iadd 57 105 rfl rfl ?_
    refine t_iald (d := 16) (f := 17) (v := (σ.2.1 17 (((20 * x4) + x3) : Int32).toNatClampNeg)) 58 106 rfl rfl td_16 rfl tf_17 (b1 c1) rfl ?_
    exact t_iret 59 rfl rfl rfl (k1 c1)
  · refine p_iconst 49 93 rfl rfl ci_0 ?_
    exact t_iret 50 rfl rfl rfl (k2 c1)
theorem b_set_0 {G : Gm} {T : Nat} {w : Wd} {σ : TW} {Q : Option Value → TW → Prop} {x1 : Int32} {x2 : Int32} {x3 : Int32} {Q1 : Int32 → TW → Prop} (e1 : Tvi G T w mX2_argumentAt (.ref T :: [.int x1, .int x2]) (tsI σ 0 0) Q1) (k1 : ∀ (y1 : Int32) σ1, Q1 y1 σ1 → Tn G T w mX2_set 11 [(0, .ref T), (3, .int x3)] [.int y1] σ1 Q) : Tn G T w mX2_set 0 [(0, .ref T), (1, .int x1), (2, .int x2), (3, .int x3)] [] σ Q := by
  refine p_aload_n 0 1 0 rfl rfl rfl ?_
  refine p_iconst 1 2 rfl rfl ci_0 ?_
  refine t_puti fl_X2_69 2 5 rfl rfl rfl rfl (by decide) (tws_0 _ _ _) ?_
  refine p_aload_n 3 6 0 rfl rfl rfl ?_
  refine p_iload_n 4 7 1 rfl rfl rfl ?_
  refine p_iload_n 5 8 2 rfl rfl rfl ?_
  exact t_cVi lk_X2_189 6 11 rfl rfl (by decide) [.int x1, .int x2] rfl rfl (Nat.le_of_ble_eq_true rfl) (Nat.le_of_ble_eq_true rfl) (e1 ) (fun x σ1 h => p_sub [0, 3] rfl (k1 x σ1 h))
theorem b_set_11 {G : Gm} {T : Nat} {w : Wd} {σ : TW} {Q : Option Value → TW → Prop} {x3 : Int32} {s0 : Int32} {Q1 : Int32 → TW → Prop} (e1 : s0 = (-1) → Tvi G T w mX2_fails (.ref T :: [.int 1, .int 1]) σ Q1) (k1 : s0 = (-1) → ∀ (y1 : Int32) σ1, Q1 y1 σ1 → Tn G T w mX2_set 51 [(0, .ref T), (3, .int x3), (4, .int s0)] [.int y1] σ1 Q) (b1 : ¬ s0 = (-1) → vp_in s0 960) {Q2 : Int32 → TW → Prop} (e2 : ¬ s0 = (-1) → ¬ (σ.2.1 15 (s0 : Int32).toNatClampNeg) = 0 → Tvi G T w mX2_fails (.ref T :: [.int 1, .int 1]) σ Q2) (k2 : ¬ s0 = (-1) → ¬ (σ.2.1 15 (s0 : Int32).toNatClampNeg) = 0 → ∀ (y2 : Int32) σ2, Q2 y2 σ2 → Tn G T w mX2_set 51 [(0, .ref T), (3, .int x3), (4, .int s0)] [.int y2] σ2 Q) {Q3 : Int32 → TW → Prop} (e3 : ¬ s0 = (-1) → (σ.2.1 15 (s0 : Int32).toNatClampNeg) = 0 → x3 < (-999999999) → Tvi G T w mX2_fails (.ref T :: [.int 1, .int 1]) σ Q3) (k3 : ¬ s0 = (-1) → (σ.2.1 15 (s0 : Int32).toNatClampNeg) = 0 → x3 < (-999999999) → ∀ (y3 : Int32) σ3, Q3 y3 σ3 → Tn G T w mX2_set 51 [(0, .ref T), (3, .int x3), (4, .int s0)] [.int y3] σ3 Q) {Q4 : Int32 → TW → Prop} (e4 : ¬ s0 = (-1) → (σ.2.1 15 (s0 : Int32).toNatClampNeg) = 0 → ¬ x3 < (-999999999) → x3 ≤ 999999999 → Tvi G T w mX2_fails (.ref T :: [.int 0, .int 1]) σ Q4) (k4 : ¬ s0 = (-1) → (σ.2.1 15 (s0 : Int32).toNatClampNeg) = 0 → ¬ x3 < (-999999999) → x3 ≤ 999999999 → ∀ (y4 : Int32) σ4, Q4 y4 σ4 → Tn G T w mX2_set 51 [(0, .ref T), (3, .int x3), (4, .int s0)] [.int y4] σ4 Q) {Q5 : Int32 → TW → Prop} (e5 : ¬ s0 = (-1) → (σ.2.1 15 (s0 : Int32).toNatClampNeg) = 0 → ¬ x3 < (-999999999) → ¬ x3 ≤ 999999999 → Tvi G T w mX2_fails (.ref T :: [.int 1, .int 1]) σ Q5) (k5 : ¬ s0 = (-1) → (σ.2.1 15 (s0 : Int32).toNatClampNeg) = 0 → ¬ x3 < (-999999999) → ¬ x3 ≤ 999999999 → ∀ (y5 : Int32) σ5, Q5 y5 σ5 → Tn G T w mX2_set 51 [(0, .ref T), (3, .int x3), (4, .int s0)] [.int y5] σ5 Q) : Tn G T w mX2_set 11 [(0, .ref T), (3, .int x3)] [.int s0] σ Q := by
  refine p_istore (lv' := [(4, .int s0), (0, .ref T), (3, .int x3)]) 7 13 rfl rfl (Nat.le_of_ble_eq_true rfl) rfl ?_
  refine p_aload_n 8 14 1 rfl rfl rfl ?_
  refine p_iload 9 16 0 rfl rfl rfl ?_
  refine p_iconst 10 17 rfl rfl ci_m1 ?_
  refine p_icmp_eq 11 20 42 rfl rfl rfl (fun c1 => ?_) (fun c1 => ?_)
  · refine p_iconst 23 43 rfl rfl ci_1 ?_
    refine p_goto 24 47 rfl rfl ?_
    refine p_iconst 26 48 rfl rfl ci_1 ?_
    exact t_cVi lk_X2_75 27 51 rfl rfl (by decide) [.int 1, .int 1] rfl rfl (Nat.le_of_ble_eq_true rfl) (Nat.le_of_ble_eq_true rfl) (e1 c1) (fun x σ1 h => p_sub [1, 2, 0] rfl (k1 c1 x σ1 h))
  · refine p_aload_n 12 21 1 rfl rfl rfl ?_
    refine t_geti (v := .ref (T + 14)) fl_X2_50 13 24 rfl rfl rfl ?_
    refine p_iload 14 26 0 rfl rfl rfl ?_
    refine t_iald (d := 14) (f := 15) (v := (σ.2.1 15 (s0 : Int32).toNatClampNeg)) 15 27 rfl rfl td_14 rfl tf_15 (b1 c1) rfl ?_
    refine p_if_ne 16 30 42 rfl rfl rfl (fun c2 => ?_) (fun c2 => ?_)
    · refine p_iconst 23 43 rfl rfl ci_1 ?_
      refine p_goto 24 47 rfl rfl ?_
      refine p_iconst 26 48 rfl rfl ci_1 ?_
      exact t_cVi lk_X2_75 27 51 rfl rfl (by decide) [.int 1, .int 1] rfl rfl (Nat.le_of_ble_eq_true rfl) (Nat.le_of_ble_eq_true rfl) (e2 c1 c2) (fun x σ1 h => p_sub [1, 2, 0] rfl (k2 c1 c2 x σ1 h))
    · refine p_iload_n 17 31 2 rfl rfl rfl ?_
      refine p_ldc q2194 18 33 rfl rfl ?_
      refine p_icmp_lt 19 36 42 rfl rfl rfl (fun c3 => ?_) (fun c3 => ?_)
      · refine p_iconst 23 43 rfl rfl ci_1 ?_
        refine p_goto 24 47 rfl rfl ?_
        refine p_iconst 26 48 rfl rfl ci_1 ?_
        exact t_cVi lk_X2_75 27 51 rfl rfl (by decide) [.int 1, .int 1] rfl rfl (Nat.le_of_ble_eq_true rfl) (Nat.le_of_ble_eq_true rfl) (e3 c1 c2 c3) (fun x σ1 h => p_sub [1, 2, 0] rfl (k3 c1 c2 c3 x σ1 h))
      · refine p_iload_n 20 37 2 rfl rfl rfl ?_
        refine p_ldc q2195 21 39 rfl rfl ?_
        refine p_icmp_le 22 42 46 rfl rfl rfl (fun c4 => ?_) (fun c4 => ?_)
        · refine p_iconst 25 47 rfl rfl ci_0 ?_
          refine p_iconst 26 48 rfl rfl ci_1 ?_
          exact t_cVi lk_X2_75 27 51 rfl rfl (by decide) [.int 0, .int 1] rfl rfl (Nat.le_of_ble_eq_true rfl) (Nat.le_of_ble_eq_true rfl) (e4 c1 c2 c3 c4) (fun x σ1 h => p_sub [1, 2, 0] rfl (k4 c1 c2 c3 c4 x σ1 h))
        · refine p_iconst 23 43 rfl rfl ci_1 ?_
          refine p_goto 24 47 rfl rfl ?_
          refine p_iconst 26 48 rfl rfl ci_1 ?_
          exact t_cVi lk_X2_75 27 51 rfl rfl (by decide) [.int 1, .int 1] rfl rfl (Nat.le_of_ble_eq_true rfl) (Nat.le_of_ble_eq_true rfl) (e5 c1 c2 c3 c4) (fun x σ1 h => p_sub [1, 2, 0] rfl (k5 c1 c2 c3 c4 x σ1 h))
theorem b_set_51 {G : Gm} {T : Nat} {w : Wd} {σ : TW} {Q : Option Value → TW → Prop} {x3 : Int32} {x4 : Int32} {s0 : Int32} (b1 : s0 = 0 → vp_in x4 960) (k1 : s0 = 0 → Q (some (.int (σ.2.1 16 (x4 : Int32).toNatClampNeg))) (tsA σ 16 (x4 : Int32).toNatClampNeg x3)) (k2 : ¬ s0 = 0 → Q (some (.int 0)) σ) : Tn G T w mX2_set 51 [(0, .ref T), (3, .int x3), (4, .int x4)] [.int s0] σ Q := by
  refine p_if_eq 28 54 56 rfl rfl rfl (fun c1 => ?_) (fun c1 => ?_)
  · refine p_aload_n 31 57 0 rfl rfl rfl ?_
    refine t_geti (v := .ref (T + 15)) fl_X2_53 32 60 rfl rfl rfl ?_
    refine p_iload 33 62 2 rfl rfl rfl ?_
    refine t_iald (d := 15) (f := 16) (v := (σ.2.1 16 (x4 : Int32).toNatClampNeg)) 34 63 rfl rfl td_15 rfl tf_16 (b1 c1) rfl ?_
    refine p_istore (lv' := [(5, .int (σ.2.1 16 (x4 : Int32).toNatClampNeg)), (0, .ref T), (3, .int x3), (4, .int x4)]) 35 65 rfl rfl (Nat.le_of_ble_eq_true rfl) rfl ?_
    refine p_aload_n 36 66 1 rfl rfl rfl ?_
    refine t_geti (v := .ref (T + 15)) fl_X2_53 37 69 rfl rfl rfl ?_
    refine p_iload 38 71 3 rfl rfl rfl ?_
    refine p_iload_n 39 72 2 rfl rfl rfl ?_
    refine t_iast (d := 15) (f := 16) 40 73 rfl rfl td_15 rfl tf_16 (b1 c1) ?_
    refine p_iload 41 75 0 rfl rfl rfl ?_
    exact t_iret 42 rfl rfl rfl (k1 c1)
  · refine p_iconst 29 55 rfl rfl ci_0 ?_
    exact t_iret 30 rfl rfl rfl (k2 c1)
theorem b_wrong_0 {G : Gm} {T : Nat} {w : Wd} {σ : TW} {Q : Option Value → TW → Prop} {x1 : Int32} {x2 : Int32} {Q1 : Int32 → TW → Prop} (e1 : x1 < 0 → Tvi G T w mX2_fails (.ref T :: [.int 1, .int 1]) (tsI σ 0 0) Q1) (k1 : x1 < 0 → ∀ (y1 : Int32) σ1, Q1 y1 σ1 → Tn G T w mX2_wrong 28 [(0, .ref T), (1, .int x1), (2, .int x2)] [.int y1] σ1 Q) {Q2 : Int32 → TW → Prop} (e2 : ¬ x1 < 0 → x2 < 0 → Tvi G T w mX2_fails (.ref T :: [.int 1, .int 1]) (tsI σ 0 0) Q2) (k2 : ¬ x1 < 0 → x2 < 0 → ∀ (y2 : Int32) σ2, Q2 y2 σ2 → Tn G T w mX2_wrong 28 [(0, .ref T), (1, .int x1), (2, .int x2)] [.int y2] σ2 Q) {Q3 : Int32 → TW → Prop} (e3 : ¬ x1 < 0 → ¬ x2 < 0 → x2 ≤ 2 → Tvi G T w mX2_fails (.ref T :: [.int 0, .int 1]) (tsI σ 0 0) Q3) (k3 : ¬ x1 < 0 → ¬ x2 < 0 → x2 ≤ 2 → ∀ (y3 : Int32) σ3, Q3 y3 σ3 → Tn G T w mX2_wrong 28 [(0, .ref T), (1, .int x1), (2, .int x2)] [.int y3] σ3 Q) {Q4 : Int32 → TW → Prop} (e4 : ¬ x1 < 0 → ¬ x2 < 0 → ¬ x2 ≤ 2 → Tvi G T w mX2_fails (.ref T :: [.int 1, .int 1]) (tsI σ 0 0) Q4) (k4 : ¬ x1 < 0 → ¬ x2 < 0 → ¬ x2 ≤ 2 → ∀ (y4 : Int32) σ4, Q4 y4 σ4 → Tn G T w mX2_wrong 28 [(0, .ref T), (1, .int x1), (2, .int x2)] [.int y4] σ4 Q) : Tn G T w mX2_wrong 0 [(0, .ref T), (1, .int x1), (2, .int x2)] [] σ Q := by
  refine p_aload_n 0 1 0 rfl rfl rfl ?_
  refine p_iconst 1 2 rfl rfl ci_0 ?_
  refine t_puti fl_X2_69 2 5 rfl rfl rfl rfl (by decide) (tws_0 _ _ _) ?_
  refine p_aload_n 3 6 0 rfl rfl rfl ?_
  refine p_iload_n 4 7 1 rfl rfl rfl ?_
  refine p_if_lt 5 10 19 rfl rfl rfl (fun c1 => ?_) (fun c1 => ?_)
  · refine p_iconst 11 20 rfl rfl ci_1 ?_
    refine p_goto 12 24 rfl rfl ?_
    refine p_iconst 14 25 rfl rfl ci_1 ?_
    exact t_cVi lk_X2_75 15 28 rfl rfl (by decide) [.int 1, .int 1] rfl rfl (Nat.le_of_ble_eq_true rfl) (Nat.le_of_ble_eq_true rfl) (e1 c1) (fun x σ1 h => k1 c1 x σ1 h)
  · refine p_iload_n 6 11 2 rfl rfl rfl ?_
    refine p_if_lt 7 14 19 rfl rfl rfl (fun c2 => ?_) (fun c2 => ?_)
    · refine p_iconst 11 20 rfl rfl ci_1 ?_
      refine p_goto 12 24 rfl rfl ?_
      refine p_iconst 14 25 rfl rfl ci_1 ?_
      exact t_cVi lk_X2_75 15 28 rfl rfl (by decide) [.int 1, .int 1] rfl rfl (Nat.le_of_ble_eq_true rfl) (Nat.le_of_ble_eq_true rfl) (e2 c1 c2) (fun x σ1 h => k2 c1 c2 x σ1 h)
    · refine p_iload_n 8 15 2 rfl rfl rfl ?_
      refine p_iconst 9 16 rfl rfl ci_2 ?_
      refine p_icmp_le 10 19 23 rfl rfl rfl (fun c3 => ?_) (fun c3 => ?_)
      · refine p_iconst 13 24 rfl rfl ci_0 ?_
        refine p_iconst 14 25 rfl rfl ci_1 ?_
        exact t_cVi lk_X2_75 15 28 rfl rfl (by decide) [.int 0, .int 1] rfl rfl (Nat.le_of_ble_eq_true rfl) (Nat.le_of_ble_eq_true rfl) (e3 c1 c2 c3) (fun x σ1 h => k3 c1 c2 c3 x σ1 h)
      · refine p_iconst 11 20 rfl rfl ci_1 ?_
        refine p_goto 12 24 rfl rfl ?_
        refine p_iconst 14 25 rfl rfl ci_1 ?_
        exact t_cVi lk_X2_75 15 28 rfl rfl (by decide) [.int 1, .int 1] rfl rfl (Nat.le_of_ble_eq_true rfl) (Nat.le_of_ble_eq_true rfl) (e4 c1 c2 c3) (fun x σ1 h => k4 c1 c2 c3 x σ1 h)
theorem b_wrong_28 {G : Gm} {T : Nat} {w : Wd} {σ : TW} {Q : Option Value → TW → Prop} {x1 : Int32} {x2 : Int32} {s0 : Int32} (k1 : s0 = 0 → Tn G T w mX2_wrong 38 [(0, .ref T), (2, .int x2), (3, .int x1), (4, .int 0)] [] σ Q) (k2 : ¬ s0 = 0 → Q (some (.int 0)) σ) : Tn G T w mX2_wrong 28 [(0, .ref T), (1, .int x1), (2, .int x2)] [.int s0] σ Q := by
  refine p_if_eq 16 31 33 rfl rfl rfl (fun c1 => ?_) (fun c1 => ?_)
  · refine p_iload_n 19 34 1 rfl rfl rfl ?_
    refine p_istore_n (lv' := [(3, .int x1), (0, .ref T), (1, .int x1), (2, .int x2)]) 20 35 rfl rfl (Nat.le_of_ble_eq_true rfl) rfl ?_
    refine p_iconst 21 36 rfl rfl ci_0 ?_
    refine p_istore (lv' := [(4, .int 0), (3, .int x1), (0, .ref T), (1, .int x1), (2, .int x2)]) 22 38 rfl rfl (Nat.le_of_ble_eq_true rfl) rfl ?_
    exact p_sub [2, 4, 1, 0] rfl (k1 c1)
  · refine p_iconst 17 32 rfl rfl ci_0 ?_
    exact t_iret 18 rfl rfl rfl (k2 c1)
theorem b_wrong_38 {G : Gm} {T : Nat} {w : Wd} {σ : TW} {Q : Option Value → TW → Prop} {x2 : Int32} {x3 : Int32} {x4 : Int32} (b1 : vp_in 0 3) (k1 : (σ.2.1 10 (0 : Int32).toNatClampNeg) ≤ x4 → Q (some (.int (-1))) σ) {Q2 : Int32 → TW → Prop} (e2 : ¬ (σ.2.1 10 (0 : Int32).toNatClampNeg) ≤ x4 → Tvi G T w mX2_kindOf (.ref T :: [.int x4]) σ Q2) (k2 : ¬ (σ.2.1 10 (0 : Int32).toNatClampNeg) ≤ x4 → ∀ (y2 : Int32) σ2, Q2 y2 σ2 → Tn G T w mX2_wrong 55 [(0, .ref T), (2, .int x2), (3, .int x3), (4, .int x4)] [.int y2] σ2 Q) : Tn G T w mX2_wrong 38 [(0, .ref T), (2, .int x2), (3, .int x3), (4, .int x4)] [] σ Q := by
  refine p_iload 23 40 3 rfl rfl rfl ?_
  refine p_aload_n 24 41 0 rfl rfl rfl ?_
  refine t_geti (v := .ref (T + 9)) fl_X2_35 25 44 rfl rfl rfl ?_
  refine p_iconst 26 45 rfl rfl ci_0 ?_
  refine t_iald (d := 9) (f := 10) (v := (σ.2.1 10 (0 : Int32).toNatClampNeg)) 27 46 rfl rfl td_9 rfl tf_10 b1 rfl ?_
  refine p_icmp_ge 28 49 172 rfl rfl rfl (fun c1 => ?_) (fun c1 => ?_)
  · refine p_iconst 89 173 rfl rfl ci_m1 ?_
    exact t_iret 90 rfl rfl rfl (k1 c1)
  · refine p_aload_n 29 50 0 rfl rfl rfl ?_
    refine p_iload 30 52 3 rfl rfl rfl ?_
    exact t_cVi lk_X2_183 31 55 rfl rfl (by decide) [.int x4] rfl rfl (Nat.le_of_ble_eq_true rfl) (Nat.le_of_ble_eq_true rfl) (e2 c1) (fun x σ1 h => k2 c1 x σ1 h)
theorem b_wrong_55 {G : Gm} {T : Nat} {w : Wd} {σ : TW} {Q : Option Value → TW → Prop} {x2 : Int32} {x3 : Int32} {x4 : Int32} {s0 : Int32} (b1 : ¬ s0 = (-1) → vp_in s0 24) (b2 : ¬ s0 = (-1) → vp_in x4 120) {Q1 : Int32 → TW → Prop} (e1 : ¬ s0 = (-1) → (σ.2.1 7 (s0 : Int32).toNatClampNeg) = (σ.2.1 14 (x4 : Int32).toNatClampNeg) → Tvi G T w mX2_firstWrong (.ref T :: [.int x4, .int s0]) σ Q1) (k1 : ¬ s0 = (-1) → (σ.2.1 7 (s0 : Int32).toNatClampNeg) = (σ.2.1 14 (x4 : Int32).toNatClampNeg) → ∀ (y1 : Int32) σ1, Q1 y1 σ1 → Tn G T w mX2_wrong 104 [(0, .ref T), (2, .int x2), (3, .int x3), (4, .int x4), (6, .int 0)] [.int y1] σ1 Q) (k2 : ¬ s0 = (-1) → ¬ (σ.2.1 7 (s0 : Int32).toNatClampNeg) = (σ.2.1 14 (x4 : Int32).toNatClampNeg) → ¬ x3 = 0 → Tn G T w mX2_wrong 38 [(0, .ref T), (2, .int x2), (3, .int (x3 + (-1))), (4, .int (x4 + 1))] [] σ Q) (k3 : ¬ s0 = (-1) → ¬ (σ.2.1 7 (s0 : Int32).toNatClampNeg) = (σ.2.1 14 (x4 : Int32).toNatClampNeg) → x3 = 0 → ¬ x2 = 0 → ¬ x2 = 1 → Q (some (.int (-1))) σ) (k4 : ¬ s0 = (-1) → ¬ (σ.2.1 7 (s0 : Int32).toNatClampNeg) = (σ.2.1 14 (x4 : Int32).toNatClampNeg) → x3 = 0 → ¬ x2 = 0 → x2 = 1 → Q (some (.int 2)) σ) (k5 : ¬ s0 = (-1) → ¬ (σ.2.1 7 (s0 : Int32).toNatClampNeg) = (σ.2.1 14 (x4 : Int32).toNatClampNeg) → x3 = 0 → x2 = 0 → Q (some (.int (σ.2.1 11 (x4 : Int32).toNatClampNeg))) σ) (k6 : s0 = (-1) → ¬ x3 = 0 → Tn G T w mX2_wrong 38 [(0, .ref T), (2, .int x2), (3, .int (x3 + (-1))), (4, .int (x4 + 1))] [] σ Q) (k7 : s0 = (-1) → x3 = 0 → ¬ x2 = 0 → ¬ x2 = 1 → Q (some (.int (-1))) σ) (k8 : s0 = (-1) → x3 = 0 → ¬ x2 = 0 → x2 = 1 → Q (some (.int 1)) σ) (b3 : s0 = (-1) → x3 = 0 → x2 = 0 → vp_in x4 120) (k9 : s0 = (-1) → x3 = 0 → x2 = 0 → Q (some (.int (σ.2.1 11 (x4 : Int32).toNatClampNeg))) σ) : Tn G T w mX2_wrong 55 [(0, .ref T), (2, .int x2), (3, .int x3), (4, .int x4)] [.int s0] σ Q := by
  refine p_istore (lv' := [(5, .int s0), (0, .ref T), (2, .int x2), (3, .int x3), (4, .int x4)]) 32 57 rfl rfl (Nat.le_of_ble_eq_true rfl) rfl ?_
  refine p_iload 33 59 0 rfl rfl rfl ?_
  refine p_iconst 34 60 rfl rfl ci_m1 ?_
  refine p_icmp_ne 35 63 67 rfl rfl rfl (fun c1 => ?_) (fun c1 => ?_)
  · refine p_aload_n 38 68 1 rfl rfl rfl ?_
    refine t_geti (v := .ref (T + 6)) fl_X2_25 39 71 rfl rfl rfl ?_
    refine p_iload 40 73 0 rfl rfl rfl ?_
    refine t_iald (d := 6) (f := 7) (v := (σ.2.1 7 (s0 : Int32).toNatClampNeg)) 41 74 rfl rfl td_6 rfl tf_7 (b1 c1) rfl ?_
    refine p_aload_n 42 75 1 rfl rfl rfl ?_
    refine t_geti (v := .ref (T + 13)) fl_X2_47 43 78 rfl rfl rfl ?_
    refine p_iload 44 80 4 rfl rfl rfl ?_
    refine t_iald (d := 13) (f := 14) (v := (σ.2.1 14 (x4 : Int32).toNatClampNeg)) 45 81 rfl rfl td_13 rfl tf_14 (b2 c1) rfl ?_
    refine p_icmp_eq 46 84 88 rfl rfl rfl (fun c2 => ?_) (fun c2 => ?_)
    · refine p_iconst 49 89 rfl rfl ci_0 ?_
      refine p_istore (lv' := [(6, .int 0), (5, .int s0), (0, .ref T), (2, .int x2), (3, .int x3), (4, .int x4)]) 50 91 rfl rfl (Nat.le_of_ble_eq_true rfl) rfl ?_
      refine p_iload 51 93 0 rfl rfl rfl ?_
      refine p_if_ne 52 96 107 rfl rfl rfl (fun c => absurd c (by decide)) (fun _ => ?_)
      refine p_aload_n 53 97 2 rfl rfl rfl ?_
      refine p_iload 54 99 5 rfl rfl rfl ?_
      refine p_iload 55 101 1 rfl rfl rfl ?_
      exact t_cVi lk_X2_194 56 104 rfl rfl (by decide) [.int x4, .int s0] rfl rfl (Nat.le_of_ble_eq_true rfl) (Nat.le_of_ble_eq_true rfl) (e1 c1 c2) (fun x σ1 h => p_sub [2, 3, 4, 5, 0] rfl (k1 c1 c2 x σ1 h))
    · refine p_iconst 47 85 rfl rfl ci_2 ?_
      refine p_goto 48 89 rfl rfl ?_
      refine p_istore (lv' := [(6, .int 2), (5, .int s0), (0, .ref T), (2, .int x2), (3, .int x3), (4, .int x4)]) 50 91 rfl rfl (Nat.le_of_ble_eq_true rfl) rfl ?_
      refine p_iload 51 93 0 rfl rfl rfl ?_
      refine p_if_ne 52 96 107 rfl rfl rfl (fun _ => ?_) (fun c => absurd c (by decide))
      refine p_iconst 58 108 rfl rfl ci_m1 ?_
      refine p_istore (lv' := [(7, .int (-1)), (6, .int 2), (5, .int s0), (0, .ref T), (2, .int x2), (3, .int x3), (4, .int x4)]) 59 110 rfl rfl (Nat.le_of_ble_eq_true rfl) rfl ?_
      refine p_iload 60 112 0 rfl rfl rfl ?_
      refine p_iconst 61 113 rfl rfl ci_m1 ?_
      refine p_icmp_eq 62 116 120 rfl rfl rfl (fun _ => ?_) (fun c => absurd c (by decide))
      refine p_iload 65 122 1 rfl rfl rfl ?_
      refine p_istore (lv' := [(6, .int 2), (7, .int (-1)), (5, .int s0), (0, .ref T), (2, .int x2), (3, .int x3), (4, .int x4)]) 66 124 rfl rfl (Nat.le_of_ble_eq_true rfl) rfl ?_
      refine p_iload 67 126 0 rfl rfl rfl ?_
      refine p_if_ne 68 129 132 rfl rfl rfl (fun _ => ?_) (fun c => absurd c (by decide))
      refine p_iload_n 70 133 5 rfl rfl rfl ?_
      refine p_if_ne 71 136 163 rfl rfl rfl (fun c3 => ?_) (fun c3 => ?_)
      · refine p_iinc (v := (x3 + (-1))) (lv' := [(3, .int (x3 + (-1))), (6, .int 2), (7, .int (-1)), (5, .int s0), (0, .ref T), (2, .int x2), (4, .int x4)]) 86 166 5 rfl rfl rfl (congrArg (fun z => x3 + z) ci_m1) (Nat.le_of_ble_eq_true rfl) rfl ?_
        refine p_iinc (v := (x4 + 1)) (lv' := [(4, .int (x4 + 1)), (3, .int (x3 + (-1))), (6, .int 2), (7, .int (-1)), (5, .int s0), (0, .ref T), (2, .int x2)]) 87 169 6 rfl rfl rfl (congrArg (fun z => x4 + z) ci_1) (Nat.le_of_ble_eq_true rfl) rfl ?_
        refine p_goto 88 38 rfl rfl ?_
        exact p_sub [5, 6, 1, 0] rfl (k2 c1 c2 c3)
      · refine p_iload_n 72 137 4 rfl rfl rfl ?_
        refine p_if_ne 73 140 150 rfl rfl rfl (fun c4 => ?_) (fun c4 => ?_)
        · refine p_iload_n 79 151 4 rfl rfl rfl ?_
          refine p_iconst 80 152 rfl rfl ci_1 ?_
          refine p_icmp_ne 81 155 160 rfl rfl rfl (fun c5 => ?_) (fun c5 => ?_)
          · refine p_iload 84 162 1 rfl rfl rfl ?_
            exact t_iret 85 rfl rfl rfl (k3 c1 c2 c3 c4 c5)
          · refine p_iload 82 157 0 rfl rfl rfl ?_
            refine p_goto 83 162 rfl rfl ?_
            exact t_iret 85 rfl rfl rfl (k4 c1 c2 c3 c4 c5)
        · refine p_aload_n 74 141 3 rfl rfl rfl ?_
          refine t_geti (v := .ref (T + 10)) fl_X2_38 75 144 rfl rfl rfl ?_
          refine p_iload 76 146 6 rfl rfl rfl ?_
          refine t_iald (d := 10) (f := 11) (v := (σ.2.1 11 (x4 : Int32).toNatClampNeg)) 77 147 rfl rfl td_10 rfl tf_11 (b2 c1) rfl ?_
          refine p_goto 78 162 rfl rfl ?_
          exact t_iret 85 rfl rfl rfl (k5 c1 c2 c3 c4)
  · refine p_iconst 36 64 rfl rfl ci_1 ?_
    refine p_goto 37 89 rfl rfl ?_
    refine p_istore (lv' := [(6, .int 1), (5, .int s0), (0, .ref T), (2, .int x2), (3, .int x3), (4, .int x4)]) 50 91 rfl rfl (Nat.le_of_ble_eq_true rfl) rfl ?_
    refine p_iload 51 93 0 rfl rfl rfl ?_
    refine p_if_ne 52 96 107 rfl rfl rfl (fun _ => ?_) (fun c => absurd c (by decide))
    refine p_iconst 58 108 rfl rfl ci_m1 ?_
    refine p_istore (lv' := [(7, .int (-1)), (6, .int 1), (5, .int s0), (0, .ref T), (2, .int x2), (3, .int x3), (4, .int x4)]) 59 110 rfl rfl (Nat.le_of_ble_eq_true rfl) rfl ?_
    refine p_iload 60 112 0 rfl rfl rfl ?_
    refine p_iconst 61 113 rfl rfl ci_m1 ?_
    refine p_icmp_eq 62 116 120 rfl rfl rfl (fun _ => ?_) (fun c => absurd c (by decide))
    refine p_iload 65 122 1 rfl rfl rfl ?_
    refine p_istore (lv' := [(6, .int 1), (7, .int (-1)), (5, .int s0), (0, .ref T), (2, .int x2), (3, .int x3), (4, .int x4)]) 66 124 rfl rfl (Nat.le_of_ble_eq_true rfl) rfl ?_
    refine p_iload 67 126 0 rfl rfl rfl ?_
    refine p_if_ne 68 129 132 rfl rfl rfl (fun _ => ?_) (fun c => absurd c (by decide))
    refine p_iload_n 70 133 5 rfl rfl rfl ?_
    refine p_if_ne 71 136 163 rfl rfl rfl (fun c2 => ?_) (fun c2 => ?_)
    · refine p_iinc (v := (x3 + (-1))) (lv' := [(3, .int (x3 + (-1))), (6, .int 1), (7, .int (-1)), (5, .int s0), (0, .ref T), (2, .int x2), (4, .int x4)]) 86 166 5 rfl rfl rfl (congrArg (fun z => x3 + z) ci_m1) (Nat.le_of_ble_eq_true rfl) rfl ?_
      refine p_iinc (v := (x4 + 1)) (lv' := [(4, .int (x4 + 1)), (3, .int (x3 + (-1))), (6, .int 1), (7, .int (-1)), (5, .int s0), (0, .ref T), (2, .int x2)]) 87 169 6 rfl rfl rfl (congrArg (fun z => x4 + z) ci_1) (Nat.le_of_ble_eq_true rfl) rfl ?_
      refine p_goto 88 38 rfl rfl ?_
      exact p_sub [5, 6, 1, 0] rfl (k6 c1 c2)
    · refine p_iload_n 72 137 4 rfl rfl rfl ?_
      refine p_if_ne 73 140 150 rfl rfl rfl (fun c3 => ?_) (fun c3 => ?_)
      · refine p_iload_n 79 151 4 rfl rfl rfl ?_
        refine p_iconst 80 152 rfl rfl ci_1 ?_
        refine p_icmp_ne 81 155 160 rfl rfl rfl (fun c4 => ?_) (fun c4 => ?_)
        · refine p_iload 84 162 1 rfl rfl rfl ?_
          exact t_iret 85 rfl rfl rfl (k7 c1 c2 c3 c4)
        · refine p_iload 82 157 0 rfl rfl rfl ?_
          refine p_goto 83 162 rfl rfl ?_
          exact t_iret 85 rfl rfl rfl (k8 c1 c2 c3 c4)
      · refine p_aload_n 74 141 3 rfl rfl rfl ?_
        refine t_geti (v := .ref (T + 10)) fl_X2_38 75 144 rfl rfl rfl ?_
        refine p_iload 76 146 6 rfl rfl rfl ?_
        refine t_iald (d := 10) (f := 11) (v := (σ.2.1 11 (x4 : Int32).toNatClampNeg)) 77 147 rfl rfl td_10 rfl tf_11 (b3 c1 c2 c3) rfl ?_
        refine p_goto 78 162 rfl rfl ?_
        exact t_iret 85 rfl rfl rfl (k9 c1 c2 c3)
theorem b_wrong_104 {G : Gm} {T : Nat} {w : Wd} {σ : TW} {Q : Option Value → TW → Prop} {x2 : Int32} {x3 : Int32} {x4 : Int32} {x6 : Int32} {s0 : Int32} (k1 : s0 = (-1) → ¬ x6 = 0 → ¬ x3 = 0 → Tn G T w mX2_wrong 38 [(0, .ref T), (2, .int x2), (3, .int (x3 + (-1))), (4, .int (x4 + 1))] [] σ Q) (k2 : s0 = (-1) → ¬ x6 = 0 → x3 = 0 → ¬ x2 = 0 → ¬ x2 = 1 → Q (some (.int s0)) σ) (k3 : s0 = (-1) → ¬ x6 = 0 → x3 = 0 → ¬ x2 = 0 → x2 = 1 → Q (some (.int x6)) σ) (b1 : s0 = (-1) → ¬ x6 = 0 → x3 = 0 → x2 = 0 → vp_in x4 120) (k4 : s0 = (-1) → ¬ x6 = 0 → x3 = 0 → x2 = 0 → Q (some (.int (σ.2.1 11 (x4 : Int32).toNatClampNeg))) σ) (k5 : s0 = (-1) → x6 = 0 → Tn G T w mX2_wrong 38 [(0, .ref T), (2, .int x2), (3, .int x3), (4, .int (x4 + 1))] [] σ Q) (k6 : ¬ s0 = (-1) → ¬ x3 = 0 → Tn G T w mX2_wrong 38 [(0, .ref T), (2, .int x2), (3, .int (x3 + (-1))), (4, .int (x4 + 1))] [] σ Q) (k7 : ¬ s0 = (-1) → x3 = 0 → ¬ x2 = 0 → ¬ x2 = 1 → Q (some (.int s0)) σ) (k8 : ¬ s0 = (-1) → x3 = 0 → ¬ x2 = 0 → x2 = 1 → Q (some (.int 3)) σ) (b2 : ¬ s0 = (-1) → x3 = 0 → x2 = 0 → vp_in x4 120) (k9 : ¬ s0 = (-1) → x3 = 0 → x2 = 0 → Q (some (.int (σ.2.1 11 (x4 : Int32).toNatClampNeg))) σ) : Tn G T w mX2_wrong 104 [(0, .ref T), (2, .int x2), (3, .int x3), (4, .int x4), (6, .int x6)] [.int s0] σ Q := by
  refine p_goto 57 108 rfl rfl ?_
  refine p_istore (lv' := [(7, .int s0), (0, .ref T), (2, .int x2), (3, .int x3), (4, .int x4), (6, .int x6)]) 59 110 rfl rfl (Nat.le_of_ble_eq_true rfl) rfl ?_
  refine p_iload 60 112 0 rfl rfl rfl ?_
  refine p_iconst 61 113 rfl rfl ci_m1 ?_
  refine p_icmp_eq 62 116 120 rfl rfl rfl (fun c1 => ?_) (fun c1 => ?_)
  · refine p_iload 65 122 5 rfl rfl rfl ?_
    refine p_istore (lv' := [(6, .int x6), (7, .int s0), (0, .ref T), (2, .int x2), (3, .int x3), (4, .int x4)]) 66 124 rfl rfl (Nat.le_of_ble_eq_true rfl) rfl ?_
    refine p_iload 67 126 0 rfl rfl rfl ?_
    refine p_if_ne 68 129 132 rfl rfl rfl (fun c2 => ?_) (fun c2 => ?_)
    · refine p_iload_n 70 133 4 rfl rfl rfl ?_
      refine p_if_ne 71 136 163 rfl rfl rfl (fun c3 => ?_) (fun c3 => ?_)
      · refine p_iinc (v := (x3 + (-1))) (lv' := [(3, .int (x3 + (-1))), (6, .int x6), (7, .int s0), (0, .ref T), (2, .int x2), (4, .int x4)]) 86 166 4 rfl rfl rfl (congrArg (fun z => x3 + z) ci_m1) (Nat.le_of_ble_eq_true rfl) rfl ?_
        refine p_iinc (v := (x4 + 1)) (lv' := [(4, .int (x4 + 1)), (3, .int (x3 + (-1))), (6, .int x6), (7, .int s0), (0, .ref T), (2, .int x2)]) 87 169 5 rfl rfl rfl (congrArg (fun z => x4 + z) ci_1) (Nat.le_of_ble_eq_true rfl) rfl ?_
        refine p_goto 88 38 rfl rfl ?_
        exact p_sub [4, 5, 1, 0] rfl (k1 c1 c2 c3)
      · refine p_iload_n 72 137 3 rfl rfl rfl ?_
        refine p_if_ne 73 140 150 rfl rfl rfl (fun c4 => ?_) (fun c4 => ?_)
        · refine p_iload_n 79 151 3 rfl rfl rfl ?_
          refine p_iconst 80 152 rfl rfl ci_1 ?_
          refine p_icmp_ne 81 155 160 rfl rfl rfl (fun c5 => ?_) (fun c5 => ?_)
          · refine p_iload 84 162 1 rfl rfl rfl ?_
            exact t_iret 85 rfl rfl rfl (k2 c1 c2 c3 c4 c5)
          · refine p_iload 82 157 0 rfl rfl rfl ?_
            refine p_goto 83 162 rfl rfl ?_
            exact t_iret 85 rfl rfl rfl (k3 c1 c2 c3 c4 c5)
        · refine p_aload_n 74 141 2 rfl rfl rfl ?_
          refine t_geti (v := .ref (T + 10)) fl_X2_38 75 144 rfl rfl rfl ?_
          refine p_iload 76 146 5 rfl rfl rfl ?_
          refine t_iald (d := 10) (f := 11) (v := (σ.2.1 11 (x4 : Int32).toNatClampNeg)) 77 147 rfl rfl td_10 rfl tf_11 (b1 c1 c2 c3 c4) rfl ?_
          refine p_goto 78 162 rfl rfl ?_
          exact t_iret 85 rfl rfl rfl (k4 c1 c2 c3 c4)
    · refine p_goto 69 166 rfl rfl ?_
      refine p_iinc (v := (x4 + 1)) (lv' := [(4, .int (x4 + 1)), (6, .int x6), (7, .int s0), (0, .ref T), (2, .int x2), (3, .int x3)]) 87 169 5 rfl rfl rfl (congrArg (fun z => x4 + z) ci_1) (Nat.le_of_ble_eq_true rfl) rfl ?_
      refine p_goto 88 38 rfl rfl ?_
      exact p_sub [3, 4, 5, 0] rfl (k5 c1 c2)
  · refine p_iconst 63 117 rfl rfl ci_3 ?_
    refine p_goto 64 122 rfl rfl ?_
    refine p_istore (lv' := [(6, .int 3), (7, .int s0), (0, .ref T), (2, .int x2), (3, .int x3), (4, .int x4)]) 66 124 rfl rfl (Nat.le_of_ble_eq_true rfl) rfl ?_
    refine p_iload 67 126 0 rfl rfl rfl ?_
    refine p_if_ne 68 129 132 rfl rfl rfl (fun _ => ?_) (fun c => absurd c (by decide))
    refine p_iload_n 70 133 4 rfl rfl rfl ?_
    refine p_if_ne 71 136 163 rfl rfl rfl (fun c2 => ?_) (fun c2 => ?_)
    · refine p_iinc (v := (x3 + (-1))) (lv' := [(3, .int (x3 + (-1))), (6, .int 3), (7, .int s0), (0, .ref T), (2, .int x2), (4, .int x4)]) 86 166 4 rfl rfl rfl (congrArg (fun z => x3 + z) ci_m1) (Nat.le_of_ble_eq_true rfl) rfl ?_
      refine p_iinc (v := (x4 + 1)) (lv' := [(4, .int (x4 + 1)), (3, .int (x3 + (-1))), (6, .int 3), (7, .int s0), (0, .ref T), (2, .int x2)]) 87 169 5 rfl rfl rfl (congrArg (fun z => x4 + z) ci_1) (Nat.le_of_ble_eq_true rfl) rfl ?_
      refine p_goto 88 38 rfl rfl ?_
      exact p_sub [4, 5, 1, 0] rfl (k6 c1 c2)
    · refine p_iload_n 72 137 3 rfl rfl rfl ?_
      refine p_if_ne 73 140 150 rfl rfl rfl (fun c3 => ?_) (fun c3 => ?_)
      · refine p_iload_n 79 151 3 rfl rfl rfl ?_
        refine p_iconst 80 152 rfl rfl ci_1 ?_
        refine p_icmp_ne 81 155 160 rfl rfl rfl (fun c4 => ?_) (fun c4 => ?_)
        · refine p_iload 84 162 1 rfl rfl rfl ?_
          exact t_iret 85 rfl rfl rfl (k7 c1 c2 c3 c4)
        · refine p_iload 82 157 0 rfl rfl rfl ?_
          refine p_goto 83 162 rfl rfl ?_
          exact t_iret 85 rfl rfl rfl (k8 c1 c2 c3 c4)
      · refine p_aload_n 74 141 2 rfl rfl rfl ?_
        refine t_geti (v := .ref (T + 10)) fl_X2_38 75 144 rfl rfl rfl ?_
        refine p_iload 76 146 5 rfl rfl rfl ?_
        refine t_iald (d := 10) (f := 11) (v := (σ.2.1 11 (x4 : Int32).toNatClampNeg)) 77 147 rfl rfl td_10 rfl tf_11 (b2 c1 c2 c3) rfl ?_
        refine p_goto 78 162 rfl rfl ?_
        exact t_iret 85 rfl rfl rfl (k9 c1 c2 c3)
theorem b_firstWrong_0 {G : Gm} {T : Nat} {w : Wd} {σ : TW} {Q : Option Value → TW → Prop} {x1 : Int32} {x2 : Int32} (k1 : Tn G T w mX2_firstWrong 2 [(0, .ref T), (1, .int x1), (2, .int x2), (3, .int 0)] [] σ Q) : Tn G T w mX2_firstWrong 0 [(0, .ref T), (1, .int x1), (2, .int x2)] [] σ Q := by
  refine p_iconst 0 1 rfl rfl ci_0 ?_
  refine p_istore_n (lv' := [(3, .int 0), (0, .ref T), (1, .int x1), (2, .int x2)]) 1 2 rfl rfl (Nat.le_of_ble_eq_true rfl) rfl ?_
  exact p_sub [1, 2, 3, 0] rfl (k1 )
theorem b_firstWrong_2 {G : Gm} {T : Nat} {w : Wd} {σ : TW} {Q : Option Value → TW → Prop} {x1 : Int32} {x2 : Int32} {x3 : Int32} (b1 : vp_in x1 120) (k1 : (σ.2.1 14 (x1 : Int32).toNatClampNeg) ≤ x3 → Q (some (.int (-1))) σ) (b2 : ¬ (σ.2.1 14 (x1 : Int32).toNatClampNeg) ≤ x3 → vp_in ((8 * x2) + x3) 192) (k2 : ¬ (σ.2.1 14 (x1 : Int32).toNatClampNeg) ≤ x3 → ¬ (σ.2.1 8 (((8 * x2) + x3) : Int32).toNatClampNeg) = 4 → Tn G T w mX2_firstWrong 65 [(0, .ref T), (1, .int x1), (2, .int x2), (3, .int x3), (4, .int ((8 * x1) + x3)), (5, .int (σ.2.1 8 (((8 * x2) + x3) : Int32).toNatClampNeg))] [.int 0] σ Q) (b3 : ¬ (σ.2.1 14 (x1 : Int32).toNatClampNeg) ≤ x3 → (σ.2.1 8 (((8 * x2) + x3) : Int32).toNatClampNeg) = 4 → vp_in ((8 * x1) + x3) 960) (k3 : ¬ (σ.2.1 14 (x1 : Int32).toNatClampNeg) ≤ x3 → (σ.2.1 8 (((8 * x2) + x3) : Int32).toNatClampNeg) = 4 → ¬ (σ.2.1 15 (((8 * x1) + x3) : Int32).toNatClampNeg) = 3 → Tn G T w mX2_firstWrong 65 [(0, .ref T), (1, .int x1), (2, .int x2), (3, .int x3), (4, .int ((8 * x1) + x3)), (5, .int (σ.2.1 8 (((8 * x2) + x3) : Int32).toNatClampNeg))] [.int 0] σ Q) (k4 : ¬ (σ.2.1 14 (x1 : Int32).toNatClampNeg) ≤ x3 → (σ.2.1 8 (((8 * x2) + x3) : Int32).toNatClampNeg) = 4 → (σ.2.1 15 (((8 * x1) + x3) : Int32).toNatClampNeg) = 3 → ¬ (σ.2.1 16 (((8 * x1) + x3) : Int32).toNatClampNeg) = 0 → Tn G T w mX2_firstWrong 65 [(0, .ref T), (1, .int x1), (2, .int x2), (3, .int x3), (4, .int ((8 * x1) + x3)), (5, .int (σ.2.1 8 (((8 * x2) + x3) : Int32).toNatClampNeg))] [.int 0] σ Q) (k5 : ¬ (σ.2.1 14 (x1 : Int32).toNatClampNeg) ≤ x3 → (σ.2.1 8 (((8 * x2) + x3) : Int32).toNatClampNeg) = 4 → (σ.2.1 15 (((8 * x1) + x3) : Int32).toNatClampNeg) = 3 → (σ.2.1 16 (((8 * x1) + x3) : Int32).toNatClampNeg) = 0 → Tn G T w mX2_firstWrong 65 [(0, .ref T), (1, .int x1), (2, .int x2), (3, .int x3), (4, .int ((8 * x1) + x3)), (5, .int (σ.2.1 8 (((8 * x2) + x3) : Int32).toNatClampNeg))] [.int 1] σ Q) : Tn G T w mX2_firstWrong 2 [(0, .ref T), (1, .int x1), (2, .int x2), (3, .int x3)] [] σ Q := by
  refine p_iload_n 2 3 3 rfl rfl rfl ?_
  refine p_aload_n 3 4 0 rfl rfl rfl ?_
  refine t_geti (v := .ref (T + 13)) fl_X2_47 4 7 rfl rfl rfl ?_
  refine p_iload_n 5 8 1 rfl rfl rfl ?_
  refine t_iald (d := 13) (f := 14) (v := (σ.2.1 14 (x1 : Int32).toNatClampNeg)) 6 9 rfl rfl td_13 rfl tf_14 b1 rfl ?_
  refine p_icmp_ge 7 12 130 rfl rfl rfl (fun c1 => ?_) (fun c1 => ?_)
  · refine p_iconst 74 131 rfl rfl ci_m1 ?_
    exact t_iret 75 rfl rfl rfl (k1 c1)
  · refine p_bipush 8 14 rfl rfl cb_8 ?_
    refine p_iload_n 9 15 1 rfl rfl rfl ?_
    refine p_imul 10 16 rfl rfl ?_
    refine p_iload_n 11 17 3 rfl rfl rfl ?_
    refine p_iadd 12 18 rfl rfl ?_
    refine p_istore (lv' := [(4, .int ((8 * x1) + x3)), (0, .ref T), (1, .int x1), (2, .int x2), (3, .int x3)]) 13 20 rfl rfl (Nat.le_of_ble_eq_true rfl) rfl ?_
    refine p_aload_n 14 21 1 rfl rfl rfl ?_
    refine t_geti (v := .ref (T + 7)) fl_X2_28 15 24 rfl rfl rfl ?_
    refine p_bipush 16 26 rfl rfl cb_8 ?_
    refine p_iload_n 17 27 3 rfl rfl rfl ?_
    refine p_imul 18 28 rfl rfl ?_
    refine p_iload_n 19 29 4 rfl rfl rfl ?_
    refine p_iadd 20 30 rfl rfl ?_
    refine t_iald (d := 7) (f := 8) (v := (σ.2.1 8 (((8 * x2) + x3) : Int32).toNatClampNeg)) 21 31 rfl rfl td_7 rfl tf_8 (b2 c1) rfl ?_
    refine p_istore (lv' := [(5, .int (σ.2.1 8 (((8 * x2) + x3) : Int32).toNatClampNeg)), (4, .int ((8 * x1) + x3)), (0, .ref T), (1, .int x1), (2, .int x2), (3, .int x3)]) 22 33 rfl rfl (Nat.le_of_ble_eq_true rfl) rfl ?_
    refine p_iload 23 35 0 rfl rfl rfl ?_
    refine p_iconst 24 36 rfl rfl ci_4 ?_
    refine p_icmp_ne 25 39 64 rfl rfl rfl (fun c2 => ?_) (fun c2 => ?_)
    · refine p_iconst 39 65 rfl rfl ci_0 ?_
      exact p_sub [2, 3, 4, 5, 1, 0] rfl (k2 c1 c2)
    · refine p_aload_n 26 40 2 rfl rfl rfl ?_
      refine t_geti (v := .ref (T + 14)) fl_X2_50 27 43 rfl rfl rfl ?_
      refine p_iload 28 45 1 rfl rfl rfl ?_
      refine t_iald (d := 14) (f := 15) (v := (σ.2.1 15 (((8 * x1) + x3) : Int32).toNatClampNeg)) 29 46 rfl rfl td_14 rfl tf_15 (b3 c1 c2) rfl ?_
      refine p_iconst 30 47 rfl rfl ci_3 ?_
      refine p_icmp_ne 31 50 64 rfl rfl rfl (fun c3 => ?_) (fun c3 => ?_)
      · refine p_iconst 39 65 rfl rfl ci_0 ?_
        exact p_sub [2, 3, 4, 5, 1, 0] rfl (k3 c1 c2 c3)
      · refine p_aload_n 32 51 2 rfl rfl rfl ?_
        refine t_geti (v := .ref (T + 15)) fl_X2_53 33 54 rfl rfl rfl ?_
        refine p_iload 34 56 1 rfl rfl rfl ?_
        refine t_iald (d := 15) (f := 16) (v := (σ.2.1 16 (((8 * x1) + x3) : Int32).toNatClampNeg)) 35 57 rfl rfl td_15 rfl tf_16 (b3 c1 c2) rfl ?_
        refine p_if_ne 36 60 64 rfl rfl rfl (fun c4 => ?_) (fun c4 => ?_)
        · refine p_iconst 39 65 rfl rfl ci_0 ?_
          exact p_sub [2, 3, 4, 5, 1, 0] rfl (k4 c1 c2 c3 c4)
        · refine p_iconst 37 61 rfl rfl ci_1 ?_
          refine p_goto 38 65 rfl rfl ?_
          exact p_sub [2, 3, 4, 5, 1, 0] rfl (k5 c1 c2 c3 c4)
theorem b_firstWrong_65 {G : Gm} {T : Nat} {w : Wd} {σ : TW} {Q : Option Value → TW → Prop} {x1 : Int32} {x2 : Int32} {x3 : Int32} {x4 : Int32} {x5 : Int32} {s0 : Int32} (b1 : vp_in x4 960) (k1 : ¬ (σ.2.1 15 (x4 : Int32).toNatClampNeg) = 6 → (σ.2.1 15 (x4 : Int32).toNatClampNeg) = x5 → Tn G T w mX2_firstWrong 2 [(0, .ref T), (1, .int x1), (2, .int x2), (3, .int (x3 + 1))] [] σ Q) (k2 : ¬ (σ.2.1 15 (x4 : Int32).toNatClampNeg) = 6 → ¬ (σ.2.1 15 (x4 : Int32).toNatClampNeg) = x5 → ¬ s0 = 0 → Tn G T w mX2_firstWrong 2 [(0, .ref T), (1, .int x1), (2, .int x2), (3, .int (x3 + 1))] [] σ Q) (k3 : ¬ (σ.2.1 15 (x4 : Int32).toNatClampNeg) = 6 → ¬ (σ.2.1 15 (x4 : Int32).toNatClampNeg) = x5 → s0 = 0 → Q (some (.int x3)) σ) (b2 : (σ.2.1 15 (x4 : Int32).toNatClampNeg) = 6 → vp_in ((8 * x2) + x3) 192) (k4 : (σ.2.1 15 (x4 : Int32).toNatClampNeg) = 6 → (σ.2.1 9 (((8 * x2) + x3) : Int32).toNatClampNeg) = 0 → (σ.2.1 15 (x4 : Int32).toNatClampNeg) = x5 → Tn G T w mX2_firstWrong 2 [(0, .ref T), (1, .int x1), (2, .int x2), (3, .int (x3 + 1))] [] σ Q) (k5 : (σ.2.1 15 (x4 : Int32).toNatClampNeg) = 6 → (σ.2.1 9 (((8 * x2) + x3) : Int32).toNatClampNeg) = 0 → ¬ (σ.2.1 15 (x4 : Int32).toNatClampNeg) = x5 → ¬ s0 = 0 → Tn G T w mX2_firstWrong 2 [(0, .ref T), (1, .int x1), (2, .int x2), (3, .int (x3 + 1))] [] σ Q) (k6 : (σ.2.1 15 (x4 : Int32).toNatClampNeg) = 6 → (σ.2.1 9 (((8 * x2) + x3) : Int32).toNatClampNeg) = 0 → ¬ (σ.2.1 15 (x4 : Int32).toNatClampNeg) = x5 → s0 = 0 → Q (some (.int x3)) σ) (k7 : (σ.2.1 15 (x4 : Int32).toNatClampNeg) = 6 → ¬ (σ.2.1 9 (((8 * x2) + x3) : Int32).toNatClampNeg) = 0 → (σ.2.1 15 (x4 : Int32).toNatClampNeg) = x5 → Tn G T w mX2_firstWrong 2 [(0, .ref T), (1, .int x1), (2, .int x2), (3, .int (x3 + 1))] [] σ Q) (k8 : (σ.2.1 15 (x4 : Int32).toNatClampNeg) = 6 → ¬ (σ.2.1 9 (((8 * x2) + x3) : Int32).toNatClampNeg) = 0 → ¬ (σ.2.1 15 (x4 : Int32).toNatClampNeg) = x5 → ¬ s0 = 0 → Tn G T w mX2_firstWrong 2 [(0, .ref T), (1, .int x1), (2, .int x2), (3, .int (x3 + 1))] [] σ Q) (k9 : (σ.2.1 15 (x4 : Int32).toNatClampNeg) = 6 → ¬ (σ.2.1 9 (((8 * x2) + x3) : Int32).toNatClampNeg) = 0 → ¬ (σ.2.1 15 (x4 : Int32).toNatClampNeg) = x5 → s0 = 0 → Tn G T w mX2_firstWrong 2 [(0, .ref T), (1, .int x1), (2, .int x2), (3, .int (x3 + 1))] [] σ Q) : Tn G T w mX2_firstWrong 65 [(0, .ref T), (1, .int x1), (2, .int x2), (3, .int x3), (4, .int x4), (5, .int x5)] [.int s0] σ Q := by
  refine p_istore (lv' := [(6, .int s0), (0, .ref T), (1, .int x1), (2, .int x2), (3, .int x3), (4, .int x4), (5, .int x5)]) 40 67 rfl rfl (Nat.le_of_ble_eq_true rfl) rfl ?_
  refine p_aload_n 41 68 1 rfl rfl rfl ?_
  refine t_geti (v := .ref (T + 14)) fl_X2_50 42 71 rfl rfl rfl ?_
  refine p_iload 43 73 5 rfl rfl rfl ?_
  refine t_iald (d := 14) (f := 15) (v := (σ.2.1 15 (x4 : Int32).toNatClampNeg)) 44 74 rfl rfl td_14 rfl tf_15 b1 rfl ?_
  refine p_bipush 45 76 rfl rfl cb_6 ?_
  refine p_icmp_ne 46 79 97 rfl rfl rfl (fun c1 => ?_) (fun c1 => ?_)
  · refine p_iconst 58 98 rfl rfl ci_0 ?_
    refine p_istore (lv' := [(7, .int 0), (6, .int s0), (0, .ref T), (1, .int x1), (2, .int x2), (3, .int x3), (4, .int x4), (5, .int x5)]) 59 100 rfl rfl (Nat.le_of_ble_eq_true rfl) rfl ?_
    refine p_aload_n 60 101 2 rfl rfl rfl ?_
    refine t_geti (v := .ref (T + 14)) fl_X2_50 61 104 rfl rfl rfl ?_
    refine p_iload 62 106 6 rfl rfl rfl ?_
    refine t_iald (d := 14) (f := 15) (v := (σ.2.1 15 (x4 : Int32).toNatClampNeg)) 63 107 rfl rfl td_14 rfl tf_15 b1 rfl ?_
    refine p_iload 64 109 7 rfl rfl rfl ?_
    refine p_icmp_eq 65 112 124 rfl rfl rfl (fun c2 => ?_) (fun c2 => ?_)
    · refine p_iinc (v := (x3 + 1)) (lv' := [(3, .int (x3 + 1)), (7, .int 0), (6, .int s0), (0, .ref T), (1, .int x1), (2, .int x2), (4, .int x4), (5, .int x5)]) 72 127 5 rfl rfl rfl (congrArg (fun z => x3 + z) ci_1) (Nat.le_of_ble_eq_true rfl) rfl ?_
      refine p_goto 73 2 rfl rfl ?_
      exact p_sub [3, 4, 5, 0] rfl (k1 c1 c2)
    · refine p_iload 66 114 1 rfl rfl rfl ?_
      refine p_if_ne 67 117 124 rfl rfl rfl (fun c3 => ?_) (fun c3 => ?_)
      · refine p_iinc (v := (x3 + 1)) (lv' := [(3, .int (x3 + 1)), (7, .int 0), (6, .int s0), (0, .ref T), (1, .int x1), (2, .int x2), (4, .int x4), (5, .int x5)]) 72 127 5 rfl rfl rfl (congrArg (fun z => x3 + z) ci_1) (Nat.le_of_ble_eq_true rfl) rfl ?_
        refine p_goto 73 2 rfl rfl ?_
        exact p_sub [3, 4, 5, 0] rfl (k2 c1 c2 c3)
      · refine p_iload 68 119 0 rfl rfl rfl ?_
        refine p_if_ne 69 122 124 rfl rfl rfl (fun c => absurd c (by decide)) (fun _ => ?_)
        refine p_iload_n 70 123 5 rfl rfl rfl ?_
        exact t_iret 71 rfl rfl rfl (k3 c1 c2 c3)
  · refine p_aload_n 47 80 1 rfl rfl rfl ?_
    refine t_geti (v := .ref (T + 8)) fl_X2_31 48 83 rfl rfl rfl ?_
    refine p_bipush 49 85 rfl rfl cb_8 ?_
    refine p_iload_n 50 86 3 rfl rfl rfl ?_
    refine p_imul 51 87 rfl rfl ?_
    refine p_iload_n 52 88 4 rfl rfl rfl ?_
    refine p_iadd 53 89 rfl rfl ?_
    refine t_zald (v := (σ.2.1 9 (((8 * x2) + x3) : Int32).toNatClampNeg)) 54 90 rfl rfl (b2 c1) rfl ?_
    refine p_if_eq 55 93 97 rfl rfl rfl (fun c2 => ?_) (fun c2 => ?_)
    · refine p_iconst 58 98 rfl rfl ci_0 ?_
      refine p_istore (lv' := [(7, .int 0), (6, .int s0), (0, .ref T), (1, .int x1), (2, .int x2), (3, .int x3), (4, .int x4), (5, .int x5)]) 59 100 rfl rfl (Nat.le_of_ble_eq_true rfl) rfl ?_
      refine p_aload_n 60 101 2 rfl rfl rfl ?_
      refine t_geti (v := .ref (T + 14)) fl_X2_50 61 104 rfl rfl rfl ?_
      refine p_iload 62 106 6 rfl rfl rfl ?_
      refine t_iald (d := 14) (f := 15) (v := (σ.2.1 15 (x4 : Int32).toNatClampNeg)) 63 107 rfl rfl td_14 rfl tf_15 b1 rfl ?_
      refine p_iload 64 109 7 rfl rfl rfl ?_
      refine p_icmp_eq 65 112 124 rfl rfl rfl (fun c3 => ?_) (fun c3 => ?_)
      · refine p_iinc (v := (x3 + 1)) (lv' := [(3, .int (x3 + 1)), (7, .int 0), (6, .int s0), (0, .ref T), (1, .int x1), (2, .int x2), (4, .int x4), (5, .int x5)]) 72 127 5 rfl rfl rfl (congrArg (fun z => x3 + z) ci_1) (Nat.le_of_ble_eq_true rfl) rfl ?_
        refine p_goto 73 2 rfl rfl ?_
        exact p_sub [3, 4, 5, 0] rfl (k4 c1 c2 c3)
      · refine p_iload 66 114 1 rfl rfl rfl ?_
        refine p_if_ne 67 117 124 rfl rfl rfl (fun c4 => ?_) (fun c4 => ?_)
        · refine p_iinc (v := (x3 + 1)) (lv' := [(3, .int (x3 + 1)), (7, .int 0), (6, .int s0), (0, .ref T), (1, .int x1), (2, .int x2), (4, .int x4), (5, .int x5)]) 72 127 5 rfl rfl rfl (congrArg (fun z => x3 + z) ci_1) (Nat.le_of_ble_eq_true rfl) rfl ?_
          refine p_goto 73 2 rfl rfl ?_
          exact p_sub [3, 4, 5, 0] rfl (k5 c1 c2 c3 c4)
        · refine p_iload 68 119 0 rfl rfl rfl ?_
          refine p_if_ne 69 122 124 rfl rfl rfl (fun c => absurd c (by decide)) (fun _ => ?_)
          refine p_iload_n 70 123 5 rfl rfl rfl ?_
          exact t_iret 71 rfl rfl rfl (k6 c1 c2 c3 c4)
    · refine p_iconst 56 94 rfl rfl ci_1 ?_
      refine p_goto 57 98 rfl rfl ?_
      refine p_istore (lv' := [(7, .int 1), (6, .int s0), (0, .ref T), (1, .int x1), (2, .int x2), (3, .int x3), (4, .int x4), (5, .int x5)]) 59 100 rfl rfl (Nat.le_of_ble_eq_true rfl) rfl ?_
      refine p_aload_n 60 101 2 rfl rfl rfl ?_
      refine t_geti (v := .ref (T + 14)) fl_X2_50 61 104 rfl rfl rfl ?_
      refine p_iload 62 106 6 rfl rfl rfl ?_
      refine t_iald (d := 14) (f := 15) (v := (σ.2.1 15 (x4 : Int32).toNatClampNeg)) 63 107 rfl rfl td_14 rfl tf_15 b1 rfl ?_
      refine p_iload 64 109 7 rfl rfl rfl ?_
      refine p_icmp_eq 65 112 124 rfl rfl rfl (fun c3 => ?_) (fun c3 => ?_)
      · refine p_iinc (v := (x3 + 1)) (lv' := [(3, .int (x3 + 1)), (7, .int 1), (6, .int s0), (0, .ref T), (1, .int x1), (2, .int x2), (4, .int x4), (5, .int x5)]) 72 127 5 rfl rfl rfl (congrArg (fun z => x3 + z) ci_1) (Nat.le_of_ble_eq_true rfl) rfl ?_
        refine p_goto 73 2 rfl rfl ?_
        exact p_sub [3, 4, 5, 0] rfl (k7 c1 c2 c3)
      · refine p_iload 66 114 1 rfl rfl rfl ?_
        refine p_if_ne 67 117 124 rfl rfl rfl (fun c4 => ?_) (fun c4 => ?_)
        · refine p_iinc (v := (x3 + 1)) (lv' := [(3, .int (x3 + 1)), (7, .int 1), (6, .int s0), (0, .ref T), (1, .int x1), (2, .int x2), (4, .int x4), (5, .int x5)]) 72 127 5 rfl rfl rfl (congrArg (fun z => x3 + z) ci_1) (Nat.le_of_ble_eq_true rfl) rfl ?_
          refine p_goto 73 2 rfl rfl ?_
          exact p_sub [3, 4, 5, 0] rfl (k8 c1 c2 c3 c4)
        · refine p_iload 68 119 0 rfl rfl rfl ?_
          refine p_if_ne 69 122 124 rfl rfl rfl (fun _ => ?_) (fun c => absurd c (by decide))
          refine p_iinc (v := (x3 + 1)) (lv' := [(3, .int (x3 + 1)), (7, .int 1), (6, .int s0), (0, .ref T), (1, .int x1), (2, .int x2), (4, .int x4), (5, .int x5)]) 72 127 5 rfl rfl rfl (congrArg (fun z => x3 + z) ci_1) (Nat.le_of_ble_eq_true rfl) rfl ?_
          refine p_goto 73 2 rfl rfl ?_
          exact p_sub [3, 4, 5, 0] rfl (k9 c1 c2 c3 c4)
theorem b_from_0 {G : Gm} {T : Nat} {w : Wd} {σ : TW} {Q : Option Value → TW → Prop} {x1 : Int32} {x2 : Int32} {Q1 : Int32 → TW → Prop} (e1 : Tvi G T w mX2_find (.ref T :: [.int 0, .int x1]) (tsI σ 0 0) Q1) (k1 : ∀ (y1 : Int32) σ1, Q1 y1 σ1 → Tn G T w mX2_from 11 [(0, .ref T), (2, .int x2)] [.int y1] σ1 Q) : Tn G T w mX2_from 0 [(0, .ref T), (1, .int x1), (2, .int x2)] [] σ Q := by
  refine p_aload_n 0 1 0 rfl rfl rfl ?_
  refine p_iconst 1 2 rfl rfl ci_0 ?_
  refine t_puti fl_X2_69 2 5 rfl rfl rfl rfl (by decide) (tws_0 _ _ _) ?_
  refine p_aload_n 3 6 0 rfl rfl rfl ?_
  refine p_iconst 4 7 rfl rfl ci_0 ?_
  refine p_iload_n 5 8 1 rfl rfl rfl ?_
  exact t_cVi lk_X2_143 6 11 rfl rfl (by decide) [.int 0, .int x1] rfl rfl (Nat.le_of_ble_eq_true rfl) (Nat.le_of_ble_eq_true rfl) (e1 ) (fun x σ1 h => p_sub [0, 2] rfl (k1 x σ1 h))
theorem b_from_11 {G : Gm} {T : Nat} {w : Wd} {σ : TW} {Q : Option Value → TW → Prop} {x2 : Int32} {s0 : Int32} {Q1 : Int32 → TW → Prop} (e1 : s0 = (-1) → Tvi G T w mX2_fails (.ref T :: [.int 1, .int 1]) σ Q1) (k1 : s0 = (-1) → ∀ (y1 : Int32) σ1, Q1 y1 σ1 → Tn G T w mX2_from 31 [(0, .ref T), (2, .int x2), (3, .int s0)] [.int y1] σ1 Q) {Q2 : Int32 → TW → Prop} (e2 : ¬ s0 = (-1) → (0 : Int32) ≤ x2 → Tvi G T w mX2_fails (.ref T :: [.int 0, .int 1]) σ Q2) (k2 : ¬ s0 = (-1) → (0 : Int32) ≤ x2 → ∀ (y2 : Int32) σ2, Q2 y2 σ2 → Tn G T w mX2_from 31 [(0, .ref T), (2, .int x2), (3, .int s0)] [.int y2] σ2 Q) {Q3 : Int32 → TW → Prop} (e3 : ¬ s0 = (-1) → ¬ (0 : Int32) ≤ x2 → Tvi G T w mX2_fails (.ref T :: [.int 1, .int 1]) σ Q3) (k3 : ¬ s0 = (-1) → ¬ (0 : Int32) ≤ x2 → ∀ (y3 : Int32) σ3, Q3 y3 σ3 → Tn G T w mX2_from 31 [(0, .ref T), (2, .int x2), (3, .int s0)] [.int y3] σ3 Q) : Tn G T w mX2_from 11 [(0, .ref T), (2, .int x2)] [.int s0] σ Q := by
  refine p_istore_n (lv' := [(3, .int s0), (0, .ref T), (2, .int x2)]) 7 12 rfl rfl (Nat.le_of_ble_eq_true rfl) rfl ?_
  refine p_aload_n 8 13 1 rfl rfl rfl ?_
  refine p_iload_n 9 14 0 rfl rfl rfl ?_
  refine p_iconst 10 15 rfl rfl ci_m1 ?_
  refine p_icmp_eq 11 18 22 rfl rfl rfl (fun c1 => ?_) (fun c1 => ?_)
  · refine p_iconst 14 23 rfl rfl ci_1 ?_
    refine p_goto 15 27 rfl rfl ?_
    refine p_iconst 17 28 rfl rfl ci_1 ?_
    exact t_cVi lk_X2_75 18 31 rfl rfl (by decide) [.int 1, .int 1] rfl rfl (Nat.le_of_ble_eq_true rfl) (Nat.le_of_ble_eq_true rfl) (e1 c1) (fun x σ1 h => p_sub [1, 2, 0] rfl (k1 c1 x σ1 h))
  · refine p_iload_n 12 19 2 rfl rfl rfl ?_
    refine p_if_ge 13 22 26 rfl rfl rfl (fun c2 => ?_) (fun c2 => ?_)
    · refine p_iconst 16 27 rfl rfl ci_0 ?_
      refine p_iconst 17 28 rfl rfl ci_1 ?_
      exact t_cVi lk_X2_75 18 31 rfl rfl (by decide) [.int 0, .int 1] rfl rfl (Nat.le_of_ble_eq_true rfl) (Nat.le_of_ble_eq_true rfl) (e2 c1 c2) (fun x σ1 h => p_sub [1, 2, 0] rfl (k2 c1 c2 x σ1 h))
    · refine p_iconst 14 23 rfl rfl ci_1 ?_
      refine p_goto 15 27 rfl rfl ?_
      refine p_iconst 17 28 rfl rfl ci_1 ?_
      exact t_cVi lk_X2_75 18 31 rfl rfl (by decide) [.int 1, .int 1] rfl rfl (Nat.le_of_ble_eq_true rfl) (Nat.le_of_ble_eq_true rfl) (e3 c1 c2) (fun x σ1 h => p_sub [1, 2, 0] rfl (k3 c1 c2 x σ1 h))
theorem b_from_31 {G : Gm} {T : Nat} {w : Wd} {σ : TW} {Q : Option Value → TW → Prop} {x2 : Int32} {x3 : Int32} {s0 : Int32} {Q1 : TW → Prop} (e1 : s0 = 0 → Tvv G T w mX2_findWays (.ref T :: []) σ Q1) (k1 : s0 = 0 → ∀ σ1, Q1 σ1 → Tn G T w mX2_from 40 [(0, .ref T), (2, .int x2), (3, .int x3)] [] σ1 Q) (k2 : ¬ s0 = 0 → Q (some (.int 0)) σ) : Tn G T w mX2_from 31 [(0, .ref T), (2, .int x2), (3, .int x3)] [.int s0] σ Q := by
  refine p_if_eq 19 34 36 rfl rfl rfl (fun c1 => ?_) (fun c1 => ?_)
  · refine p_aload_n 22 37 0 rfl rfl rfl ?_
    exact t_cVv lk_X2_177 23 40 rfl rfl (by decide) [] rfl rfl (Nat.le_of_ble_eq_true rfl) (Nat.le_of_ble_eq_true rfl) (e1 c1) (fun σ1 h => k1 c1 σ1 h)
  · refine p_iconst 20 35 rfl rfl ci_0 ?_
    exact t_iret 21 rfl rfl rfl (k2 c1)
theorem b_from_40 {G : Gm} {T : Nat} {w : Wd} {σ : TW} {Q : Option Value → TW → Prop} {x2 : Int32} {x3 : Int32} (k1 : Tn G T w mX2_from 46 [(0, .ref T), (3, .int x3), (4, .int x2), (5, .int 0)] [] σ Q) : Tn G T w mX2_from 40 [(0, .ref T), (2, .int x2), (3, .int x3)] [] σ Q := by
  refine p_iload_n 24 41 1 rfl rfl rfl ?_
  refine p_istore (lv' := [(4, .int x2), (0, .ref T), (2, .int x2), (3, .int x3)]) 25 43 rfl rfl (Nat.le_of_ble_eq_true rfl) rfl ?_
  refine p_iconst 26 44 rfl rfl ci_0 ?_
  refine p_istore (lv' := [(5, .int 0), (4, .int x2), (0, .ref T), (2, .int x2), (3, .int x3)]) 27 46 rfl rfl (Nat.le_of_ble_eq_true rfl) rfl ?_
  exact p_sub [2, 4, 1, 0] rfl (k1 )
theorem b_from_46 {G : Gm} {T : Nat} {w : Wd} {σ : TW} {Q : Option Value → TW → Prop} {x3 : Int32} {x4 : Int32} {x5 : Int32} (b1 : vp_in 0 3) (k1 : (σ.2.1 10 (0 : Int32).toNatClampNeg) ≤ x5 → Q (some (.int (-1))) σ) (b2 : ¬ (σ.2.1 10 (0 : Int32).toNatClampNeg) ≤ x5 → vp_in x5 40) (k2 : ¬ (σ.2.1 10 (0 : Int32).toNatClampNeg) ≤ x5 → ¬ (lg_cmp (((σ.2.2 (x5 : Int32).toNatClampNeg) >>> ((x3 : Int32).toInt64 &&& 63)) &&& 1) 0) = 0 → ¬ x4 = 0 → Tn G T w mX2_from 46 [(0, .ref T), (3, .int x3), (4, .int (x4 + (-1))), (5, .int (x5 + 1))] [] σ Q) (b3 : ¬ (σ.2.1 10 (0 : Int32).toNatClampNeg) ≤ x5 → ¬ (lg_cmp (((σ.2.2 (x5 : Int32).toNatClampNeg) >>> ((x3 : Int32).toInt64 &&& 63)) &&& 1) 0) = 0 → x4 = 0 → vp_in x5 120) (k3 : ¬ (σ.2.1 10 (0 : Int32).toNatClampNeg) ≤ x5 → ¬ (lg_cmp (((σ.2.2 (x5 : Int32).toNatClampNeg) >>> ((x3 : Int32).toInt64 &&& 63)) &&& 1) 0) = 0 → x4 = 0 → Q (some (.int (σ.2.1 11 (x5 : Int32).toNatClampNeg))) σ) (k4 : ¬ (σ.2.1 10 (0 : Int32).toNatClampNeg) ≤ x5 → (lg_cmp (((σ.2.2 (x5 : Int32).toNatClampNeg) >>> ((x3 : Int32).toInt64 &&& 63)) &&& 1) 0) = 0 → Tn G T w mX2_from 46 [(0, .ref T), (3, .int x3), (4, .int x4), (5, .int (x5 + 1))] [] σ Q) : Tn G T w mX2_from 46 [(0, .ref T), (3, .int x3), (4, .int x4), (5, .int x5)] [] σ Q := by
  refine p_iload 28 48 3 rfl rfl rfl ?_
  refine p_aload_n 29 49 0 rfl rfl rfl ?_
  refine t_geti (v := .ref (T + 9)) fl_X2_35 30 52 rfl rfl rfl ?_
  refine p_iconst 31 53 rfl rfl ci_0 ?_
  refine t_iald (d := 9) (f := 10) (v := (σ.2.1 10 (0 : Int32).toNatClampNeg)) 32 54 rfl rfl td_9 rfl tf_10 b1 rfl ?_
  refine p_icmp_ge 33 57 98 rfl rfl rfl (fun c1 => ?_) (fun c1 => ?_)
  · refine p_iconst 56 99 rfl rfl ci_m1 ?_
    exact t_iret 57 rfl rfl rfl (k1 c1)
  · refine p_aload_n 34 58 0 rfl rfl rfl ?_
    refine t_geti (v := .ref (T + 19)) fl_X2_65 35 61 rfl rfl rfl ?_
    refine p_iload 36 63 3 rfl rfl rfl ?_
    refine t_lald (v := (σ.2.2 (x5 : Int32).toNatClampNeg)) 37 64 rfl rfl (b2 c1) rfl ?_
    refine p_iload_n 38 65 1 rfl rfl rfl ?_
    refine p_lshr 39 66 rfl rfl ?_
    refine p_lconst (v := 1) 40 67 rfl rfl rfl ?_
    refine p_land 41 68 rfl rfl ?_
    refine p_lconst (v := 0) 42 69 rfl rfl rfl ?_
    refine p_lcmp 43 70 rfl rfl ?_
    refine p_if_ne 44 73 76 rfl rfl rfl (fun c2 => ?_) (fun c2 => ?_)
    · refine p_iload 46 78 2 rfl rfl rfl ?_
      refine p_if_ne 47 81 89 rfl rfl rfl (fun c3 => ?_) (fun c3 => ?_)
      · refine p_iinc (v := (x4 + (-1))) (lv' := [(4, .int (x4 + (-1))), (0, .ref T), (3, .int x3), (5, .int x5)]) 53 92 2 rfl rfl rfl (congrArg (fun z => x4 + z) ci_m1) (Nat.le_of_ble_eq_true rfl) rfl ?_
        refine p_iinc (v := (x5 + 1)) (lv' := [(5, .int (x5 + 1)), (4, .int (x4 + (-1))), (0, .ref T), (3, .int x3)]) 54 95 3 rfl rfl rfl (congrArg (fun z => x5 + z) ci_1) (Nat.le_of_ble_eq_true rfl) rfl ?_
        refine p_goto 55 46 rfl rfl ?_
        exact p_sub [2, 3, 1, 0] rfl (k2 c1 c2 c3)
      · refine p_aload_n 48 82 0 rfl rfl rfl ?_
        refine t_geti (v := .ref (T + 10)) fl_X2_38 49 85 rfl rfl rfl ?_
        refine p_iload 50 87 3 rfl rfl rfl ?_
        refine t_iald (d := 10) (f := 11) (v := (σ.2.1 11 (x5 : Int32).toNatClampNeg)) 51 88 rfl rfl td_10 rfl tf_11 (b3 c1 c2 c3) rfl ?_
        exact t_iret 52 rfl rfl rfl (k3 c1 c2 c3)
    · refine p_goto 45 92 rfl rfl ?_
      refine p_iinc (v := (x5 + 1)) (lv' := [(5, .int (x5 + 1)), (0, .ref T), (3, .int x3), (4, .int x4)]) 54 95 3 rfl rfl rfl (congrArg (fun z => x5 + z) ci_1) (Nat.le_of_ble_eq_true rfl) rfl ?_
      refine p_goto 55 46 rfl rfl ?_
      exact p_sub [1, 2, 3, 0] rfl (k4 c1 c2)
theorem b_ring_0 {G : Gm} {T : Nat} {w : Wd} {σ : TW} {Q : Option Value → TW → Prop} {x1 : Int32} {Q1 : Int32 → TW → Prop} (e1 : (0 : Int32) ≤ x1 → Tvi G T w mX2_fails (.ref T :: [.int 0, .int 1]) (tsI σ 0 0) Q1) (k1 : (0 : Int32) ≤ x1 → ∀ (y1 : Int32) σ1, Q1 y1 σ1 → Tn G T w mX2_ring 19 [(0, .ref T), (1, .int x1)] [.int y1] σ1 Q) {Q2 : Int32 → TW → Prop} (e2 : ¬ (0 : Int32) ≤ x1 → Tvi G T w mX2_fails (.ref T :: [.int 1, .int 1]) (tsI σ 0 0) Q2) (k2 : ¬ (0 : Int32) ≤ x1 → ∀ (y2 : Int32) σ2, Q2 y2 σ2 → Tn G T w mX2_ring 19 [(0, .ref T), (1, .int x1)] [.int y2] σ2 Q) : Tn G T w mX2_ring 0 [(0, .ref T), (1, .int x1)] [] σ Q := by
  refine p_aload_n 0 1 0 rfl rfl rfl ?_
  refine p_iconst 1 2 rfl rfl ci_0 ?_
  refine t_puti fl_X2_69 2 5 rfl rfl rfl rfl (by decide) (tws_0 _ _ _) ?_
  refine p_aload_n 3 6 0 rfl rfl rfl ?_
  refine p_iload_n 4 7 1 rfl rfl rfl ?_
  refine p_if_ge 5 10 14 rfl rfl rfl (fun c1 => ?_) (fun c1 => ?_)
  · refine p_iconst 8 15 rfl rfl ci_0 ?_
    refine p_iconst 9 16 rfl rfl ci_1 ?_
    exact t_cVi lk_X2_75 10 19 rfl rfl (by decide) [.int 0, .int 1] rfl rfl (Nat.le_of_ble_eq_true rfl) (Nat.le_of_ble_eq_true rfl) (e1 c1) (fun x σ1 h => k1 c1 x σ1 h)
  · refine p_iconst 6 11 rfl rfl ci_1 ?_
    refine p_goto 7 15 rfl rfl ?_
    refine p_iconst 9 16 rfl rfl ci_1 ?_
    exact t_cVi lk_X2_75 10 19 rfl rfl (by decide) [.int 1, .int 1] rfl rfl (Nat.le_of_ble_eq_true rfl) (Nat.le_of_ble_eq_true rfl) (e2 c1) (fun x σ1 h => k2 c1 x σ1 h)
theorem b_ring_19 {G : Gm} {T : Nat} {w : Wd} {σ : TW} {Q : Option Value → TW → Prop} {x1 : Int32} {s0 : Int32} {Q1 : TW → Prop} (e1 : s0 = 0 → Tvv G T w mX2_findDepths (.ref T :: []) σ Q1) (k1 : s0 = 0 → ∀ σ1, Q1 σ1 → Tn G T w mX2_ring 28 [(0, .ref T), (1, .int x1)] [] σ1 Q) (k2 : ¬ s0 = 0 → Q (some (.int 0)) σ) : Tn G T w mX2_ring 19 [(0, .ref T), (1, .int x1)] [.int s0] σ Q := by
  refine p_if_eq 11 22 24 rfl rfl rfl (fun c1 => ?_) (fun c1 => ?_)
  · refine p_aload_n 14 25 0 rfl rfl rfl ?_
    exact t_cVv lk_X2_180 15 28 rfl rfl (by decide) [] rfl rfl (Nat.le_of_ble_eq_true rfl) (Nat.le_of_ble_eq_true rfl) (e1 c1) (fun σ1 h => k1 c1 σ1 h)
  · refine p_iconst 12 23 rfl rfl ci_0 ?_
    exact t_iret 13 rfl rfl rfl (k2 c1)
theorem b_ring_28 {G : Gm} {T : Nat} {w : Wd} {σ : TW} {Q : Option Value → TW → Prop} {x1 : Int32} (k1 : Tn G T w mX2_ring 32 [(0, .ref T), (2, .int x1), (3, .int 0)] [] σ Q) : Tn G T w mX2_ring 28 [(0, .ref T), (1, .int x1)] [] σ Q := by
  refine p_iload_n 16 29 1 rfl rfl rfl ?_
  refine p_istore_n (lv' := [(2, .int x1), (0, .ref T), (1, .int x1)]) 17 30 rfl rfl (Nat.le_of_ble_eq_true rfl) rfl ?_
  refine p_iconst 18 31 rfl rfl ci_0 ?_
  refine p_istore_n (lv' := [(3, .int 0), (2, .int x1), (0, .ref T), (1, .int x1)]) 19 32 rfl rfl (Nat.le_of_ble_eq_true rfl) rfl ?_
  exact p_sub [2, 1, 0] rfl (k1 )
theorem b_ring_32 {G : Gm} {T : Nat} {w : Wd} {σ : TW} {Q : Option Value → TW → Prop} {x2 : Int32} {x3 : Int32} (b1 : vp_in 0 3) (k1 : (σ.2.1 10 (0 : Int32).toNatClampNeg) ≤ x3 → Q (some (.int (-1))) σ) (b2 : ¬ (σ.2.1 10 (0 : Int32).toNatClampNeg) ≤ x3 → vp_in x3 40) (k2 : ¬ (σ.2.1 10 (0 : Int32).toNatClampNeg) ≤ x3 → ¬ (σ.2.1 21 (x3 : Int32).toNatClampNeg) = (-1) → Tn G T w mX2_ring 32 [(0, .ref T), (2, .int x2), (3, .int (x3 + 1))] [] σ Q) {Q3 : Int32 → TW → Prop} (e3 : ¬ (σ.2.1 10 (0 : Int32).toNatClampNeg) ≤ x3 → (σ.2.1 21 (x3 : Int32).toNatClampNeg) = (-1) → Tvi G T w mX2_isOnRing (.ref T :: [.int x3]) σ Q3) (k3 : ¬ (σ.2.1 10 (0 : Int32).toNatClampNeg) ≤ x3 → (σ.2.1 21 (x3 : Int32).toNatClampNeg) = (-1) → ∀ (y3 : Int32) σ3, Q3 y3 σ3 → Tn G T w mX2_ring 57 [(0, .ref T), (2, .int x2), (3, .int x3)] [.int y3] σ3 Q) : Tn G T w mX2_ring 32 [(0, .ref T), (2, .int x2), (3, .int x3)] [] σ Q := by
  refine p_iload_n 20 33 2 rfl rfl rfl ?_
  refine p_aload_n 21 34 0 rfl rfl rfl ?_
  refine t_geti (v := .ref (T + 9)) fl_X2_35 22 37 rfl rfl rfl ?_
  refine p_iconst 23 38 rfl rfl ci_0 ?_
  refine t_iald (d := 9) (f := 10) (v := (σ.2.1 10 (0 : Int32).toNatClampNeg)) 24 39 rfl rfl td_9 rfl tf_10 b1 rfl ?_
  refine p_icmp_ge 25 42 83 rfl rfl rfl (fun c1 => ?_) (fun c1 => ?_)
  · refine p_iconst 47 84 rfl rfl ci_m1 ?_
    exact t_iret 48 rfl rfl rfl (k1 c1)
  · refine p_aload_n 26 43 0 rfl rfl rfl ?_
    refine t_geti (v := .ref (T + 17)) fl_X2_59 27 46 rfl rfl rfl ?_
    refine p_iload_n 28 47 2 rfl rfl rfl ?_
    refine t_iald (d := 17) (f := 21) (v := (σ.2.1 21 (x3 : Int32).toNatClampNeg)) 29 48 rfl rfl td_17 rfl tf_21 (b2 c1) rfl ?_
    refine p_iconst 30 49 rfl rfl ci_m1 ?_
    refine p_icmp_ne 31 52 77 rfl rfl rfl (fun c2 => ?_) (fun c2 => ?_)
    · refine p_iinc (v := (x3 + 1)) (lv' := [(3, .int (x3 + 1)), (0, .ref T), (2, .int x2)]) 45 80 2 rfl rfl rfl (congrArg (fun z => x3 + z) ci_1) (Nat.le_of_ble_eq_true rfl) rfl ?_
      refine p_goto 46 32 rfl rfl ?_
      exact p_sub [1, 2, 0] rfl (k2 c1 c2)
    · refine p_aload_n 32 53 0 rfl rfl rfl ?_
      refine p_iload_n 33 54 2 rfl rfl rfl ?_
      exact t_cVi lk_X2_197 34 57 rfl rfl (by decide) [.int x3] rfl rfl (Nat.le_of_ble_eq_true rfl) (Nat.le_of_ble_eq_true rfl) (e3 c1 c2) (fun x σ1 h => k3 c1 c2 x σ1 h)
theorem b_ring_57 {G : Gm} {T : Nat} {w : Wd} {σ : TW} {Q : Option Value → TW → Prop} {x2 : Int32} {x3 : Int32} {s0 : Int32} (k1 : ¬ s0 = 0 → ¬ x2 = 0 → Tn G T w mX2_ring 32 [(0, .ref T), (2, .int (x2 + (-1))), (3, .int (x3 + 1))] [] σ Q) (b1 : ¬ s0 = 0 → x2 = 0 → vp_in x3 120) (k2 : ¬ s0 = 0 → x2 = 0 → Q (some (.int (σ.2.1 11 (x3 : Int32).toNatClampNeg))) σ) (k3 : s0 = 0 → Tn G T w mX2_ring 32 [(0, .ref T), (2, .int x2), (3, .int (x3 + 1))] [] σ Q) : Tn G T w mX2_ring 57 [(0, .ref T), (2, .int x2), (3, .int x3)] [.int s0] σ Q := by
  refine p_if_ne 35 60 63 rfl rfl rfl (fun c1 => ?_) (fun c1 => ?_)
  · refine p_iload_n 37 64 1 rfl rfl rfl ?_
    refine p_if_ne 38 67 74 rfl rfl rfl (fun c2 => ?_) (fun c2 => ?_)
    · refine p_iinc (v := (x2 + (-1))) (lv' := [(2, .int (x2 + (-1))), (0, .ref T), (3, .int x3)]) 44 77 1 rfl rfl rfl (congrArg (fun z => x2 + z) ci_m1) (Nat.le_of_ble_eq_true rfl) rfl ?_
      refine p_iinc (v := (x3 + 1)) (lv' := [(3, .int (x3 + 1)), (2, .int (x2 + (-1))), (0, .ref T)]) 45 80 2 rfl rfl rfl (congrArg (fun z => x3 + z) ci_1) (Nat.le_of_ble_eq_true rfl) rfl ?_
      refine p_goto 46 32 rfl rfl ?_
      exact p_sub [2, 1, 0] rfl (k1 c1 c2)
    · refine p_aload_n 39 68 0 rfl rfl rfl ?_
      refine t_geti (v := .ref (T + 10)) fl_X2_38 40 71 rfl rfl rfl ?_
      refine p_iload_n 41 72 2 rfl rfl rfl ?_
      refine t_iald (d := 10) (f := 11) (v := (σ.2.1 11 (x3 : Int32).toNatClampNeg)) 42 73 rfl rfl td_10 rfl tf_11 (b1 c1 c2) rfl ?_
      exact t_iret 43 rfl rfl rfl (k2 c1 c2)
  · refine p_goto 36 77 rfl rfl ?_
    refine p_iinc (v := (x3 + 1)) (lv' := [(3, .int (x3 + 1)), (0, .ref T), (2, .int x2)]) 45 80 2 rfl rfl rfl (congrArg (fun z => x3 + z) ci_1) (Nat.le_of_ble_eq_true rfl) rfl ?_
    refine p_goto 46 32 rfl rfl ?_
    exact p_sub [1, 2, 0] rfl (k3 c1)
theorem b_isOnRing_0 {G : Gm} {T : Nat} {w : Wd} {σ : TW} {Q : Option Value → TW → Prop} {x1 : Int32} (b1 : vp_in x1 40) (k1 : Tn G T w mX2_isOnRing 10 [(0, .ref T), (1, .int x1), (2, .long (σ.2.2 (x1 : Int32).toNatClampNeg)), (4, .long 0)] [] σ Q) : Tn G T w mX2_isOnRing 0 [(0, .ref T), (1, .int x1)] [] σ Q := by
  refine p_aload_n 0 1 0 rfl rfl rfl ?_
  refine t_geti (v := .ref (T + 19)) fl_X2_65 1 4 rfl rfl rfl ?_
  refine p_iload_n 2 5 1 rfl rfl rfl ?_
  refine t_lald (v := (σ.2.2 (x1 : Int32).toNatClampNeg)) 3 6 rfl rfl b1 rfl ?_
  refine p_lstore_n (lv' := [(2, .long (σ.2.2 (x1 : Int32).toNatClampNeg)), (0, .ref T), (1, .int x1)]) 4 7 rfl rfl (Nat.le_of_ble_eq_true rfl) rfl ?_
  refine p_lconst (v := 0) 5 8 rfl rfl rfl ?_
  refine p_lstore (lv' := [(4, .long 0), (2, .long (σ.2.2 (x1 : Int32).toNatClampNeg)), (0, .ref T), (1, .int x1)]) 6 10 rfl rfl (Nat.le_of_ble_eq_true rfl) rfl ?_
  exact p_sub [2, 3, 1, 0] rfl (k1 )
theorem b_isOnRing_10 {G : Gm} {T : Nat} {w : Wd} {σ : TW} {Q : Option Value → TW → Prop} {x1 : Int32} {x2 : Int64} {x4 : Int64} (k1 : (lg_cmp x2 x4) = 0 → ¬ (lg_cmp ((x2 >>> ((x1 : Int32).toInt64 &&& 63)) &&& 1) 1) = 0 → Q (some (.int 0)) σ) (k2 : (lg_cmp x2 x4) = 0 → (lg_cmp ((x2 >>> ((x1 : Int32).toInt64 &&& 63)) &&& 1) 1) = 0 → Q (some (.int 1)) σ) (k3 : ¬ (lg_cmp x2 x4) = 0 → Tn G T w mX2_isOnRing 23 [(0, .ref T), (1, .int x1), (2, .long x2), (4, .long x2), (6, .int 0)] [] σ Q) : Tn G T w mX2_isOnRing 10 [(0, .ref T), (1, .int x1), (2, .long x2), (4, .long x4)] [] σ Q := by
  refine p_lload_n 7 11 2 rfl rfl rfl ?_
  refine p_lload 8 13 3 rfl rfl rfl ?_
  refine p_lcmp 9 14 rfl rfl ?_
  refine p_if_eq 10 17 64 rfl rfl rfl (fun c1 => ?_) (fun c1 => ?_)
  · refine p_lload_n 39 65 2 rfl rfl rfl ?_
    refine p_iload_n 40 66 1 rfl rfl rfl ?_
    refine p_lshr 41 67 rfl rfl ?_
    refine p_lconst (v := 1) 42 68 rfl rfl rfl ?_
    refine p_land 43 69 rfl rfl ?_
    refine p_lconst (v := 1) 44 70 rfl rfl rfl ?_
    refine p_lcmp 45 71 rfl rfl ?_
    refine p_if_ne 46 74 78 rfl rfl rfl (fun c2 => ?_) (fun c2 => ?_)
    · refine p_iconst 49 79 rfl rfl ci_0 ?_
      exact t_iret 50 rfl rfl rfl (k1 c1 c2)
    · refine p_iconst 47 75 rfl rfl ci_1 ?_
      refine p_goto 48 79 rfl rfl ?_
      exact t_iret 50 rfl rfl rfl (k2 c1 c2)
  · refine p_lload_n 11 18 2 rfl rfl rfl ?_
    refine p_lstore (lv' := [(4, .long x2), (0, .ref T), (1, .int x1), (2, .long x2)]) 12 20 rfl rfl (Nat.le_of_ble_eq_true rfl) rfl ?_
    refine p_iconst 13 21 rfl rfl ci_0 ?_
    refine p_istore (lv' := [(6, .int 0), (4, .long x2), (0, .ref T), (1, .int x1), (2, .long x2)]) 14 23 rfl rfl (Nat.le_of_ble_eq_true rfl) rfl ?_
    exact p_sub [2, 3, 4, 1, 0] rfl (k3 c1)
theorem b_isOnRing_23 {G : Gm} {T : Nat} {w : Wd} {σ : TW} {Q : Option Value → TW → Prop} {x1 : Int32} {x2 : Int64} {x4 : Int64} {x6 : Int32} (b1 : vp_in 0 3) (k1 : (σ.2.1 10 (0 : Int32).toNatClampNeg) ≤ x6 → Tn G T w mX2_isOnRing 10 [(0, .ref T), (1, .int x1), (2, .long x2), (4, .long x4)] [] σ Q) (k2 : ¬ (σ.2.1 10 (0 : Int32).toNatClampNeg) ≤ x6 → ¬ (lg_cmp ((x2 >>> ((x6 : Int32).toInt64 &&& 63)) &&& 1) 1) = 0 → Tn G T w mX2_isOnRing 23 [(0, .ref T), (1, .int x1), (2, .long x2), (4, .long x4), (6, .int (x6 + 1))] [] σ Q) (b2 : ¬ (σ.2.1 10 (0 : Int32).toNatClampNeg) ≤ x6 → (lg_cmp ((x2 >>> ((x6 : Int32).toInt64 &&& 63)) &&& 1) 1) = 0 → vp_in x6 40) (k3 : ¬ (σ.2.1 10 (0 : Int32).toNatClampNeg) ≤ x6 → (lg_cmp ((x2 >>> ((x6 : Int32).toInt64 &&& 63)) &&& 1) 1) = 0 → Tn G T w mX2_isOnRing 23 [(0, .ref T), (1, .int x1), (2, .long (x2 ||| (σ.2.2 (x6 : Int32).toNatClampNeg))), (4, .long x4), (6, .int (x6 + 1))] [] σ Q) : Tn G T w mX2_isOnRing 23 [(0, .ref T), (1, .int x1), (2, .long x2), (4, .long x4), (6, .int x6)] [] σ Q := by
  refine p_iload 15 25 4 rfl rfl rfl ?_
  refine p_aload_n 16 26 0 rfl rfl rfl ?_
  refine t_geti (v := .ref (T + 9)) fl_X2_35 17 29 rfl rfl rfl ?_
  refine p_iconst 18 30 rfl rfl ci_0 ?_
  refine t_iald (d := 9) (f := 10) (v := (σ.2.1 10 (0 : Int32).toNatClampNeg)) 19 31 rfl rfl td_9 rfl tf_10 b1 rfl ?_
  refine p_icmp_ge 20 34 61 rfl rfl rfl (fun c1 => ?_) (fun c1 => ?_)
  · refine p_goto 38 10 rfl rfl ?_
    exact p_sub [0, 1, 2, 3] rfl (k1 c1)
  · refine p_lload_n 21 35 2 rfl rfl rfl ?_
    refine p_iload 22 37 4 rfl rfl rfl ?_
    refine p_lshr 23 38 rfl rfl ?_
    refine p_lconst (v := 1) 24 39 rfl rfl rfl ?_
    refine p_land 25 40 rfl rfl ?_
    refine p_lconst (v := 1) 26 41 rfl rfl rfl ?_
    refine p_lcmp 27 42 rfl rfl ?_
    refine p_if_ne 28 45 55 rfl rfl rfl (fun c2 => ?_) (fun c2 => ?_)
    · refine p_iinc (v := (x6 + 1)) (lv' := [(6, .int (x6 + 1)), (0, .ref T), (1, .int x1), (2, .long x2), (4, .long x4)]) 36 58 4 rfl rfl rfl (congrArg (fun z => x6 + z) ci_1) (Nat.le_of_ble_eq_true rfl) rfl ?_
      refine p_goto 37 23 rfl rfl ?_
      exact p_sub [1, 2, 3, 4, 0] rfl (k2 c1 c2)
    · refine p_lload_n 29 46 2 rfl rfl rfl ?_
      refine p_aload_n 30 47 0 rfl rfl rfl ?_
      refine t_geti (v := .ref (T + 19)) fl_X2_65 31 50 rfl rfl rfl ?_
      refine p_iload 32 52 4 rfl rfl rfl ?_
      refine t_lald (v := (σ.2.2 (x6 : Int32).toNatClampNeg)) 33 53 rfl rfl (b2 c1 c2) rfl ?_
      refine p_lor 34 54 rfl rfl ?_
      refine p_lstore_n (lv' := [(2, .long (x2 ||| (σ.2.2 (x6 : Int32).toNatClampNeg))), (0, .ref T), (1, .int x1), (4, .long x4), (6, .int x6)]) 35 55 rfl rfl (Nat.le_of_ble_eq_true rfl) rfl ?_
      refine p_iinc (v := (x6 + 1)) (lv' := [(6, .int (x6 + 1)), (2, .long (x2 ||| (σ.2.2 (x6 : Int32).toNatClampNeg))), (0, .ref T), (1, .int x1), (4, .long x4)]) 36 58 4 rfl rfl rfl (congrArg (fun z => x6 + z) ci_1) (Nat.le_of_ble_eq_true rfl) rfl ?_
      refine p_goto 37 23 rfl rfl ?_
      exact p_sub [2, 3, 1, 4, 0] rfl (k3 c1 c2)
theorem b_place_0 {G : Gm} {T : Nat} {w : Wd} {σ : TW} {Q : Option Value → TW → Prop} {x1 : Int32} {x2 : Int32} {Q1 : Int32 → TW → Prop} (e1 : Tvi G T w mX2_find (.ref T :: [.int 0, .int x1]) (tsI σ 0 0) Q1) (k1 : ∀ (y1 : Int32) σ1, Q1 y1 σ1 → Tn G T w mX2_place 11 [(0, .ref T), (2, .int x2)] [.int y1] σ1 Q) : Tn G T w mX2_place 0 [(0, .ref T), (1, .int x1), (2, .int x2)] [] σ Q := by
  refine p_aload_n 0 1 0 rfl rfl rfl ?_
  refine p_iconst 1 2 rfl rfl ci_0 ?_
  refine t_puti fl_X2_69 2 5 rfl rfl rfl rfl (by decide) (tws_0 _ _ _) ?_
  refine p_aload_n 3 6 0 rfl rfl rfl ?_
  refine p_iconst 4 7 rfl rfl ci_0 ?_
  refine p_iload_n 5 8 1 rfl rfl rfl ?_
  exact t_cVi lk_X2_143 6 11 rfl rfl (by decide) [.int 0, .int x1] rfl rfl (Nat.le_of_ble_eq_true rfl) (Nat.le_of_ble_eq_true rfl) (e1 ) (fun x σ1 h => p_sub [0, 2] rfl (k1 x σ1 h))
theorem b_place_11 {G : Gm} {T : Nat} {w : Wd} {σ : TW} {Q : Option Value → TW → Prop} {x2 : Int32} {s0 : Int32} {Q1 : Int32 → TW → Prop} (e1 : s0 = (-1) → Tvi G T w mX2_fails (.ref T :: [.int 1, .int 1]) σ Q1) (k1 : s0 = (-1) → ∀ (y1 : Int32) σ1, Q1 y1 σ1 → Tn G T w mX2_place 36 [(0, .ref T), (2, .int x2), (3, .int s0)] [.int y1] σ1 Q) {Q2 : Int32 → TW → Prop} (e2 : ¬ s0 = (-1) → x2 < 0 → Tvi G T w mX2_fails (.ref T :: [.int 1, .int 1]) σ Q2) (k2 : ¬ s0 = (-1) → x2 < 0 → ∀ (y2 : Int32) σ2, Q2 y2 σ2 → Tn G T w mX2_place 36 [(0, .ref T), (2, .int x2), (3, .int s0)] [.int y2] σ2 Q) {Q3 : Int32 → TW → Prop} (e3 : ¬ s0 = (-1) → ¬ x2 < 0 → x2 ≤ 2 → Tvi G T w mX2_fails (.ref T :: [.int 0, .int 1]) σ Q3) (k3 : ¬ s0 = (-1) → ¬ x2 < 0 → x2 ≤ 2 → ∀ (y3 : Int32) σ3, Q3 y3 σ3 → Tn G T w mX2_place 36 [(0, .ref T), (2, .int x2), (3, .int s0)] [.int y3] σ3 Q) {Q4 : Int32 → TW → Prop} (e4 : ¬ s0 = (-1) → ¬ x2 < 0 → ¬ x2 ≤ 2 → Tvi G T w mX2_fails (.ref T :: [.int 1, .int 1]) σ Q4) (k4 : ¬ s0 = (-1) → ¬ x2 < 0 → ¬ x2 ≤ 2 → ∀ (y4 : Int32) σ4, Q4 y4 σ4 → Tn G T w mX2_place 36 [(0, .ref T), (2, .int x2), (3, .int s0)] [.int y4] σ4 Q) : Tn G T w mX2_place 11 [(0, .ref T), (2, .int x2)] [.int s0] σ Q := by
  refine p_istore_n (lv' := [(3, .int s0), (0, .ref T), (2, .int x2)]) 7 12 rfl rfl (Nat.le_of_ble_eq_true rfl) rfl ?_
  refine p_aload_n 8 13 1 rfl rfl rfl ?_
  refine p_iload_n 9 14 0 rfl rfl rfl ?_
  refine p_iconst 10 15 rfl rfl ci_m1 ?_
  refine p_icmp_eq 11 18 27 rfl rfl rfl (fun c1 => ?_) (fun c1 => ?_)
  · refine p_iconst 17 28 rfl rfl ci_1 ?_
    refine p_goto 18 32 rfl rfl ?_
    refine p_iconst 20 33 rfl rfl ci_1 ?_
    exact t_cVi lk_X2_75 21 36 rfl rfl (by decide) [.int 1, .int 1] rfl rfl (Nat.le_of_ble_eq_true rfl) (Nat.le_of_ble_eq_true rfl) (e1 c1) (fun x σ1 h => p_sub [1, 2, 0] rfl (k1 c1 x σ1 h))
  · refine p_iload_n 12 19 2 rfl rfl rfl ?_
    refine p_if_lt 13 22 27 rfl rfl rfl (fun c2 => ?_) (fun c2 => ?_)
    · refine p_iconst 17 28 rfl rfl ci_1 ?_
      refine p_goto 18 32 rfl rfl ?_
      refine p_iconst 20 33 rfl rfl ci_1 ?_
      exact t_cVi lk_X2_75 21 36 rfl rfl (by decide) [.int 1, .int 1] rfl rfl (Nat.le_of_ble_eq_true rfl) (Nat.le_of_ble_eq_true rfl) (e2 c1 c2) (fun x σ1 h => p_sub [1, 2, 0] rfl (k2 c1 c2 x σ1 h))
    · refine p_iload_n 14 23 2 rfl rfl rfl ?_
      refine p_iconst 15 24 rfl rfl ci_2 ?_
      refine p_icmp_le 16 27 31 rfl rfl rfl (fun c3 => ?_) (fun c3 => ?_)
      · refine p_iconst 19 32 rfl rfl ci_0 ?_
        refine p_iconst 20 33 rfl rfl ci_1 ?_
        exact t_cVi lk_X2_75 21 36 rfl rfl (by decide) [.int 0, .int 1] rfl rfl (Nat.le_of_ble_eq_true rfl) (Nat.le_of_ble_eq_true rfl) (e3 c1 c2 c3) (fun x σ1 h => p_sub [1, 2, 0] rfl (k3 c1 c2 c3 x σ1 h))
      · refine p_iconst 17 28 rfl rfl ci_1 ?_
        refine p_goto 18 32 rfl rfl ?_
        refine p_iconst 20 33 rfl rfl ci_1 ?_
        exact t_cVi lk_X2_75 21 36 rfl rfl (by decide) [.int 1, .int 1] rfl rfl (Nat.le_of_ble_eq_true rfl) (Nat.le_of_ble_eq_true rfl) (e4 c1 c2 c3) (fun x σ1 h => p_sub [1, 2, 0] rfl (k4 c1 c2 c3 x σ1 h))
theorem b_place_36 {G : Gm} {T : Nat} {w : Wd} {σ : TW} {Q : Option Value → TW → Prop} {x2 : Int32} {x3 : Int32} {s0 : Int32} (k1 : ¬ s0 = 0 → Q (some (.long 0)) σ) {Q2 : Int32 → TW → Prop} (e2 : s0 = 0 → Tvi G T w mX2_isPlaced (.ref T :: [.int x3]) σ Q2) (k2 : s0 = 0 → ∀ (y2 : Int32) σ2, Q2 y2 σ2 → Tn G T w mX2_place 45 [(0, .ref T), (2, .int x2), (3, .int x3)] [.int y2, .ref T] σ2 Q) : Tn G T w mX2_place 36 [(0, .ref T), (2, .int x2), (3, .int x3)] [.int s0] σ Q := by
  refine p_if_ne 22 39 60 rfl rfl rfl (fun c1 => ?_) (fun c1 => ?_)
  · refine p_lconst (v := 0) 34 61 rfl rfl rfl ?_
    exact t_lret 35 rfl rfl (k1 c1)
  · refine p_aload_n 23 40 0 rfl rfl rfl ?_
    refine p_aload_n 24 41 0 rfl rfl rfl ?_
    refine p_iload_n 25 42 2 rfl rfl rfl ?_
    exact t_cVi lk_X2_200 26 45 rfl rfl (by decide) [.int x3] rfl rfl (Nat.le_of_ble_eq_true rfl) (Nat.le_of_ble_eq_true rfl) (e2 c1) (fun x σ1 h => k2 c1 x σ1 h)
theorem b_place_45 {G : Gm} {T : Nat} {w : Wd} {σ : TW} {Q : Option Value → TW → Prop} {x2 : Int32} {x3 : Int32} {s0 : Int32} {Q1 : Int32 → TW → Prop} (e1 : ¬ s0 = 0 → Tvi G T w mX2_fails (.ref T :: [.int 0, .int 1]) σ Q1) (k1 : ¬ s0 = 0 → ∀ (y1 : Int32) σ1, Q1 y1 σ1 → Tn G T w mX2_place 57 [(0, .ref T), (2, .int x2), (3, .int x3)] [.int y1] σ1 Q) {Q2 : Int32 → TW → Prop} (e2 : s0 = 0 → Tvi G T w mX2_fails (.ref T :: [.int 1, .int 1]) σ Q2) (k2 : s0 = 0 → ∀ (y2 : Int32) σ2, Q2 y2 σ2 → Tn G T w mX2_place 57 [(0, .ref T), (2, .int x2), (3, .int x3)] [.int y2] σ2 Q) : Tn G T w mX2_place 45 [(0, .ref T), (2, .int x2), (3, .int x3)] [.int s0, .ref T] σ Q := by
  refine p_if_ne 27 48 52 rfl rfl rfl (fun c1 => ?_) (fun c1 => ?_)
  · refine p_iconst 30 53 rfl rfl ci_0 ?_
    refine p_iconst 31 54 rfl rfl ci_1 ?_
    exact t_cVi lk_X2_75 32 57 rfl rfl (by decide) [.int 0, .int 1] rfl rfl (Nat.le_of_ble_eq_true rfl) (Nat.le_of_ble_eq_true rfl) (e1 c1) (fun x σ1 h => k1 c1 x σ1 h)
  · refine p_iconst 28 49 rfl rfl ci_1 ?_
    refine p_goto 29 53 rfl rfl ?_
    refine p_iconst 31 54 rfl rfl ci_1 ?_
    exact t_cVi lk_X2_75 32 57 rfl rfl (by decide) [.int 1, .int 1] rfl rfl (Nat.le_of_ble_eq_true rfl) (Nat.le_of_ble_eq_true rfl) (e2 c1) (fun x σ1 h => k2 c1 x σ1 h)
theorem b_place_57 {G : Gm} {T : Nat} {w : Wd} {σ : TW} {Q : Option Value → TW → Prop} {x2 : Int32} {x3 : Int32} {s0 : Int32} (k1 : s0 = 0 → Tn G T w mX2_place 68 [(0, .ref T), (2, .int x2), (3, .int x3), (4, .long 0), (6, .int 0)] [] σ Q) (k2 : ¬ s0 = 0 → Q (some (.long 0)) σ) : Tn G T w mX2_place 57 [(0, .ref T), (2, .int x2), (3, .int x3)] [.int s0] σ Q := by
  refine p_if_eq 33 60 62 rfl rfl rfl (fun c1 => ?_) (fun c1 => ?_)
  · refine p_lconst (v := 0) 36 63 rfl rfl rfl ?_
    refine p_lstore (lv' := [(4, .long 0), (0, .ref T), (2, .int x2), (3, .int x3)]) 37 65 rfl rfl (Nat.le_of_ble_eq_true rfl) rfl ?_
    refine p_iconst 38 66 rfl rfl ci_0 ?_
    refine p_istore (lv' := [(6, .int 0), (4, .long 0), (0, .ref T), (2, .int x2), (3, .int x3)]) 39 68 rfl rfl (Nat.le_of_ble_eq_true rfl) rfl ?_
    exact p_sub [2, 3, 4, 1, 0] rfl (k1 c1)
  · refine p_lconst (v := 0) 34 61 rfl rfl rfl ?_
    exact t_lret 35 rfl rfl (k2 c1)
theorem b_place_68 {G : Gm} {T : Nat} {w : Wd} {σ : TW} {Q : Option Value → TW → Prop} {x2 : Int32} {x3 : Int32} {x4 : Int64} {x6 : Int32} (k1 : x3 = (-1) → Q (some (.long x4)) σ) (b1 : ¬ x3 = (-1) → vp_in 0 3) (b2 : ¬ x3 = (-1) → x6 ≤ (σ.2.1 10 (0 : Int32).toNatClampNeg) → vp_in ((8 * x3) + x2) 960) (b3 : ¬ x3 = (-1) → x6 ≤ (σ.2.1 10 (0 : Int32).toNatClampNeg) → vp_in ((8 * x3) + 3) 960) (k2 : ¬ x3 = (-1) → x6 ≤ (σ.2.1 10 (0 : Int32).toNatClampNeg) → ¬ (σ.2.1 15 (((8 * x3) + 3) : Int32).toNatClampNeg) = 2 → Tn G T w mX2_place 68 [(0, .ref T), (2, .int x2), (3, .int (-1)), (4, .long (x4 + ((σ.2.1 16 (((8 * x3) + x2) : Int32).toNatClampNeg) : Int32).toInt64)), (6, .int (x6 + 1))] [] σ Q) {Q3 : Int32 → TW → Prop} (e3 : ¬ x3 = (-1) → x6 ≤ (σ.2.1 10 (0 : Int32).toNatClampNeg) → (σ.2.1 15 (((8 * x3) + 3) : Int32).toNatClampNeg) = 2 → Tvi G T w mX2_find (.ref T :: [.int 0, .int (σ.2.1 16 (((8 * x3) + 3) : Int32).toNatClampNeg)]) σ Q3) (k3 : ¬ x3 = (-1) → x6 ≤ (σ.2.1 10 (0 : Int32).toNatClampNeg) → (σ.2.1 15 (((8 * x3) + 3) : Int32).toNatClampNeg) = 2 → ∀ (y3 : Int32) σ3, Q3 y3 σ3 → Tn G T w mX2_place 139 [(0, .ref T), (2, .int x2), (4, .long (x4 + ((σ.2.1 16 (((8 * x3) + x2) : Int32).toNatClampNeg) : Int32).toInt64)), (6, .int (x6 + 1))] [.int y3] σ3 Q) (k4 : ¬ x3 = (-1) → ¬ x6 ≤ (σ.2.1 10 (0 : Int32).toNatClampNeg) → Q (some (.long 1000000000000)) σ) : Tn G T w mX2_place 68 [(0, .ref T), (2, .int x2), (3, .int x3), (4, .long x4), (6, .int x6)] [] σ Q := by
  refine p_iload_n 40 69 2 rfl rfl rfl ?_
  refine p_iconst 41 70 rfl rfl ci_m1 ?_
  refine p_icmp_eq 42 73 170 rfl rfl rfl (fun c1 => ?_) (fun c1 => ?_)
  · refine p_lload 100 172 3 rfl rfl rfl ?_
    exact t_lret 101 rfl rfl (k1 c1)
  · refine p_iload 43 75 4 rfl rfl rfl ?_
    refine p_aload_n 44 76 0 rfl rfl rfl ?_
    refine t_geti (v := .ref (T + 9)) fl_X2_35 45 79 rfl rfl rfl ?_
    refine p_iconst 46 80 rfl rfl ci_0 ?_
    refine t_iald (d := 9) (f := 10) (v := (σ.2.1 10 (0 : Int32).toNatClampNeg)) 47 81 rfl rfl td_9 rfl tf_10 (b1 c1) rfl ?_
    refine p_icmp_le 48 84 88 rfl rfl rfl (fun c2 => ?_) (fun c2 => ?_)
    · refine p_iinc (v := (x6 + 1)) (lv' := [(6, .int (x6 + 1)), (0, .ref T), (2, .int x2), (3, .int x3), (4, .long x4)]) 51 91 4 rfl rfl rfl (congrArg (fun z => x6 + z) ci_1) (Nat.le_of_ble_eq_true rfl) rfl ?_
      refine p_lload 52 93 4 rfl rfl rfl ?_
      refine p_aload_n 53 94 1 rfl rfl rfl ?_
      refine t_geti (v := .ref (T + 15)) fl_X2_53 54 97 rfl rfl rfl ?_
      refine p_bipush 55 99 rfl rfl cb_8 ?_
      refine p_iload_n 56 100 3 rfl rfl rfl ?_
      refine p_imul 57 101 rfl rfl ?_
      refine p_iload_n 58 102 2 rfl rfl rfl ?_
      refine p_iadd 59 103 rfl rfl ?_
      refine t_iald (d := 15) (f := 16) (v := (σ.2.1 16 (((8 * x3) + x2) : Int32).toNatClampNeg)) 60 104 rfl rfl td_15 rfl tf_16 (b2 c1 c2) rfl ?_
      refine p_i2l 61 105 rfl rfl ?_
      refine p_ladd 62 106 rfl rfl ?_
      refine p_lstore (lv' := [(4, .long (x4 + ((σ.2.1 16 (((8 * x3) + x2) : Int32).toNatClampNeg) : Int32).toInt64)), (6, .int (x6 + 1)), (0, .ref T), (2, .int x2), (3, .int x3)]) 63 108 rfl rfl (Nat.le_of_ble_eq_true rfl) rfl ?_
      refine p_aload_n 64 109 2 rfl rfl rfl ?_
      refine t_geti (v := .ref (T + 14)) fl_X2_50 65 112 rfl rfl rfl ?_
      refine p_bipush 66 114 rfl rfl cb_8 ?_
      refine p_iload_n 67 115 4 rfl rfl rfl ?_
      refine p_imul 68 116 rfl rfl ?_
      refine p_iconst 69 117 rfl rfl ci_3 ?_
      refine p_iadd 70 118 rfl rfl ?_
      refine t_iald (d := 14) (f := 15) (v := (σ.2.1 15 (((8 * x3) + 3) : Int32).toNatClampNeg)) 71 119 rfl rfl td_14 rfl tf_15 (b3 c1 c2) rfl ?_
      refine p_iconst 72 120 rfl rfl ci_2 ?_
      refine p_icmp_ne 73 123 142 rfl rfl rfl (fun c3 => ?_) (fun c3 => ?_)
      · refine p_iconst 86 143 rfl rfl ci_m1 ?_
        refine p_istore (lv' := [(7, .int (-1)), (4, .long (x4 + ((σ.2.1 16 (((8 * x3) + x2) : Int32).toNatClampNeg) : Int32).toInt64)), (6, .int (x6 + 1)), (0, .ref T), (2, .int x2), (3, .int x3)]) 87 145 rfl rfl (Nat.le_of_ble_eq_true rfl) rfl ?_
        refine p_iload 88 147 0 rfl rfl rfl ?_
        refine p_iconst 89 148 rfl rfl ci_m1 ?_
        refine p_icmp_eq 90 151 165 rfl rfl rfl (fun _ => ?_) (fun c => absurd c (by decide))
        refine p_iconst 97 166 rfl rfl ci_m1 ?_
        refine p_istore_n (lv' := [(3, .int (-1)), (7, .int (-1)), (4, .long (x4 + ((σ.2.1 16 (((8 * x3) + x2) : Int32).toNatClampNeg) : Int32).toInt64)), (6, .int (x6 + 1)), (0, .ref T), (2, .int x2)]) 98 167 rfl rfl (Nat.le_of_ble_eq_true rfl) rfl ?_
        refine p_goto 99 68 rfl rfl ?_
        exact p_sub [4, 5, 0, 2, 3] rfl (k2 c1 c2 c3)
      · refine p_aload_n 74 124 2 rfl rfl rfl ?_
        refine p_iconst 75 125 rfl rfl ci_0 ?_
        refine p_aload_n 76 126 2 rfl rfl rfl ?_
        refine t_geti (v := .ref (T + 15)) fl_X2_53 77 129 rfl rfl rfl ?_
        refine p_bipush 78 131 rfl rfl cb_8 ?_
        refine p_iload_n 79 132 4 rfl rfl rfl ?_
        refine p_imul 80 133 rfl rfl ?_
        refine p_iconst 81 134 rfl rfl ci_3 ?_
        refine p_iadd 82 135 rfl rfl ?_
        refine t_iald (d := 15) (f := 16) (v := (σ.2.1 16 (((8 * x3) + 3) : Int32).toNatClampNeg)) 83 136 rfl rfl td_15 rfl tf_16 (b3 c1 c2) rfl ?_
        exact t_cVi lk_X2_143 84 139 rfl rfl (by decide) [.int 0, .int (σ.2.1 16 (((8 * x3) + 3) : Int32).toNatClampNeg)] rfl rfl (Nat.le_of_ble_eq_true rfl) (Nat.le_of_ble_eq_true rfl) (e3 c1 c2 c3) (fun x σ1 h => p_sub [2, 3, 0, 1] rfl (k3 c1 c2 c3 x σ1 h))
    · refine p_ldc2 q2224 49 87 rfl rfl ?_
      exact t_lret 50 rfl rfl (k4 c1 c2)
theorem b_place_139 {G : Gm} {T : Nat} {w : Wd} {σ : TW} {Q : Option Value → TW → Prop} {x2 : Int32} {x4 : Int64} {x6 : Int32} {s0 : Int32} (k1 : s0 = (-1) → Tn G T w mX2_place 68 [(0, .ref T), (2, .int x2), (3, .int (-1)), (4, .long x4), (6, .int x6)] [] σ Q) {Q2 : Int32 → TW → Prop} (e2 : ¬ s0 = (-1) → Tvi G T w mX2_isPlaced (.ref T :: [.int s0]) σ Q2) (k2 : ¬ s0 = (-1) → ∀ (y2 : Int32) σ2, Q2 y2 σ2 → Tn G T w mX2_place 157 [(0, .ref T), (2, .int x2), (4, .long x4), (6, .int x6), (7, .int s0)] [.int y2] σ2 Q) : Tn G T w mX2_place 139 [(0, .ref T), (2, .int x2), (4, .long x4), (6, .int x6)] [.int s0] σ Q := by
  refine p_goto 85 143 rfl rfl ?_
  refine p_istore (lv' := [(7, .int s0), (0, .ref T), (2, .int x2), (4, .long x4), (6, .int x6)]) 87 145 rfl rfl (Nat.le_of_ble_eq_true rfl) rfl ?_
  refine p_iload 88 147 0 rfl rfl rfl ?_
  refine p_iconst 89 148 rfl rfl ci_m1 ?_
  refine p_icmp_eq 90 151 165 rfl rfl rfl (fun c1 => ?_) (fun c1 => ?_)
  · refine p_iconst 97 166 rfl rfl ci_m1 ?_
    refine p_istore_n (lv' := [(3, .int (-1)), (7, .int s0), (0, .ref T), (2, .int x2), (4, .long x4), (6, .int x6)]) 98 167 rfl rfl (Nat.le_of_ble_eq_true rfl) rfl ?_
    refine p_goto 99 68 rfl rfl ?_
    exact p_sub [2, 3, 0, 4, 5] rfl (k1 c1)
  · refine p_aload_n 91 152 1 rfl rfl rfl ?_
    refine p_iload 92 154 0 rfl rfl rfl ?_
    exact t_cVi lk_X2_200 93 157 rfl rfl (by decide) [.int s0] rfl rfl (Nat.le_of_ble_eq_true rfl) (Nat.le_of_ble_eq_true rfl) (e2 c1) (fun x σ1 h => p_sub [1, 2, 3, 4, 0] rfl (k2 c1 x σ1 h))
theorem b_place_157 {G : Gm} {T : Nat} {w : Wd} {σ : TW} {Q : Option Value → TW → Prop} {x2 : Int32} {x4 : Int64} {x6 : Int32} {x7 : Int32} {s0 : Int32} (k1 : s0 = 0 → Tn G T w mX2_place 68 [(0, .ref T), (2, .int x2), (3, .int (-1)), (4, .long x4), (6, .int x6)] [] σ Q) (k2 : ¬ s0 = 0 → Tn G T w mX2_place 68 [(0, .ref T), (2, .int x2), (3, .int x7), (4, .long x4), (6, .int x6)] [] σ Q) : Tn G T w mX2_place 157 [(0, .ref T), (2, .int x2), (4, .long x4), (6, .int x6), (7, .int x7)] [.int s0] σ Q := by
  refine p_if_eq 94 160 165 rfl rfl rfl (fun c1 => ?_) (fun c1 => ?_)
  · refine p_iconst 97 166 rfl rfl ci_m1 ?_
    refine p_istore_n (lv' := [(3, .int (-1)), (0, .ref T), (2, .int x2), (4, .long x4), (6, .int x6), (7, .int x7)]) 98 167 rfl rfl (Nat.le_of_ble_eq_true rfl) rfl ?_
    refine p_goto 99 68 rfl rfl ?_
    exact p_sub [1, 2, 0, 3, 4] rfl (k1 c1)
  · refine p_iload 95 162 4 rfl rfl rfl ?_
    refine p_goto 96 166 rfl rfl ?_
    refine p_istore_n (lv' := [(3, .int x7), (0, .ref T), (2, .int x2), (4, .long x4), (6, .int x6), (7, .int x7)]) 98 167 rfl rfl (Nat.le_of_ble_eq_true rfl) rfl ?_
    refine p_goto 99 68 rfl rfl ?_
    exact p_sub [1, 2, 0, 3, 4] rfl (k2 c1)
theorem b_isPlaced_0 {G : Gm} {T : Nat} {w : Wd} {σ : TW} {Q : Option Value → TW → Prop} {x1 : Int32} (b1 : vp_in x1 120) (k1 : (σ.2.1 14 (x1 : Int32).toNatClampNeg) ≤ 3 → Q (some (.int 0)) σ) (b2 : ¬ (σ.2.1 14 (x1 : Int32).toNatClampNeg) ≤ 3 → vp_in (8 * x1) 960) (k2 : ¬ (σ.2.1 14 (x1 : Int32).toNatClampNeg) ≤ 3 → ¬ (σ.2.1 15 ((8 * x1) : Int32).toNatClampNeg) = 0 → Q (some (.int 0)) σ) (b3 : ¬ (σ.2.1 14 (x1 : Int32).toNatClampNeg) ≤ 3 → (σ.2.1 15 ((8 * x1) : Int32).toNatClampNeg) = 0 → vp_in ((8 * x1) + 1) 960) (k3 : ¬ (σ.2.1 14 (x1 : Int32).toNatClampNeg) ≤ 3 → (σ.2.1 15 ((8 * x1) : Int32).toNatClampNeg) = 0 → ¬ (σ.2.1 15 (((8 * x1) + 1) : Int32).toNatClampNeg) = 0 → Q (some (.int 0)) σ) (b4 : ¬ (σ.2.1 14 (x1 : Int32).toNatClampNeg) ≤ 3 → (σ.2.1 15 ((8 * x1) : Int32).toNatClampNeg) = 0 → (σ.2.1 15 (((8 * x1) + 1) : Int32).toNatClampNeg) = 0 → vp_in ((8 * x1) + 2) 960) (k4 : ¬ (σ.2.1 14 (x1 : Int32).toNatClampNeg) ≤ 3 → (σ.2.1 15 ((8 * x1) : Int32).toNatClampNeg) = 0 → (σ.2.1 15 (((8 * x1) + 1) : Int32).toNatClampNeg) = 0 → ¬ (σ.2.1 15 (((8 * x1) + 2) : Int32).toNatClampNeg) = 0 → Q (some (.int 0)) σ) (b5 : ¬ (σ.2.1 14 (x1 : Int32).toNatClampNeg) ≤ 3 → (σ.2.1 15 ((8 * x1) : Int32).toNatClampNeg) = 0 → (σ.2.1 15 (((8 * x1) + 1) : Int32).toNatClampNeg) = 0 → (σ.2.1 15 (((8 * x1) + 2) : Int32).toNatClampNeg) = 0 → vp_in ((8 * x1) + 3) 960) (k5 : ¬ (σ.2.1 14 (x1 : Int32).toNatClampNeg) ≤ 3 → (σ.2.1 15 ((8 * x1) : Int32).toNatClampNeg) = 0 → (σ.2.1 15 (((8 * x1) + 1) : Int32).toNatClampNeg) = 0 → (σ.2.1 15 (((8 * x1) + 2) : Int32).toNatClampNeg) = 0 → (σ.2.1 15 (((8 * x1) + 3) : Int32).toNatClampNeg) = 2 → Q (some (.int 1)) σ) (k6 : ¬ (σ.2.1 14 (x1 : Int32).toNatClampNeg) ≤ 3 → (σ.2.1 15 ((8 * x1) : Int32).toNatClampNeg) = 0 → (σ.2.1 15 (((8 * x1) + 1) : Int32).toNatClampNeg) = 0 → (σ.2.1 15 (((8 * x1) + 2) : Int32).toNatClampNeg) = 0 → ¬ (σ.2.1 15 (((8 * x1) + 3) : Int32).toNatClampNeg) = 2 → ¬ (σ.2.1 15 (((8 * x1) + 3) : Int32).toNatClampNeg) = 6 → Q (some (.int 0)) σ) (k7 : ¬ (σ.2.1 14 (x1 : Int32).toNatClampNeg) ≤ 3 → (σ.2.1 15 ((8 * x1) : Int32).toNatClampNeg) = 0 → (σ.2.1 15 (((8 * x1) + 1) : Int32).toNatClampNeg) = 0 → (σ.2.1 15 (((8 * x1) + 2) : Int32).toNatClampNeg) = 0 → ¬ (σ.2.1 15 (((8 * x1) + 3) : Int32).toNatClampNeg) = 2 → (σ.2.1 15 (((8 * x1) + 3) : Int32).toNatClampNeg) = 6 → Q (some (.int 1)) σ) : Tn G T w mX2_isPlaced 0 [(0, .ref T), (1, .int x1)] [] σ Q := by
  refine p_bipush 0 2 rfl rfl cb_8 ?_
  refine p_iload_n 1 3 1 rfl rfl rfl ?_
  refine p_imul 2 4 rfl rfl ?_
  refine p_istore_n (lv' := [(2, .int (8 * x1)), (0, .ref T), (1, .int x1)]) 3 5 rfl rfl (Nat.le_of_ble_eq_true rfl) rfl ?_
  refine p_aload_n 4 6 1 rfl rfl rfl ?_
  refine t_geti (v := .ref (T + 13)) fl_X2_47 5 9 rfl rfl rfl ?_
  refine p_iload_n 6 10 2 rfl rfl rfl ?_
  refine t_iald (d := 13) (f := 14) (v := (σ.2.1 14 (x1 : Int32).toNatClampNeg)) 7 11 rfl rfl td_13 rfl tf_14 b1 rfl ?_
  refine p_iconst 8 12 rfl rfl ci_3 ?_
  refine p_icmp_le 9 15 75 rfl rfl rfl (fun c1 => ?_) (fun c1 => ?_)
  · refine p_iconst 47 76 rfl rfl ci_0 ?_
    exact t_iret 48 rfl rfl rfl (k1 c1)
  · refine p_aload_n 10 16 1 rfl rfl rfl ?_
    refine t_geti (v := .ref (T + 14)) fl_X2_50 11 19 rfl rfl rfl ?_
    refine p_iload_n 12 20 0 rfl rfl rfl ?_
    refine t_iald (d := 14) (f := 15) (v := (σ.2.1 15 ((8 * x1) : Int32).toNatClampNeg)) 13 21 rfl rfl td_14 rfl tf_15 (b2 c1) rfl ?_
    refine p_if_ne 14 24 75 rfl rfl rfl (fun c2 => ?_) (fun c2 => ?_)
    · refine p_iconst 47 76 rfl rfl ci_0 ?_
      exact t_iret 48 rfl rfl rfl (k2 c1 c2)
    · refine p_aload_n 15 25 1 rfl rfl rfl ?_
      refine t_geti (v := .ref (T + 14)) fl_X2_50 16 28 rfl rfl rfl ?_
      refine p_iload_n 17 29 0 rfl rfl rfl ?_
      refine p_iconst 18 30 rfl rfl ci_1 ?_
      refine p_iadd 19 31 rfl rfl ?_
      refine t_iald (d := 14) (f := 15) (v := (σ.2.1 15 (((8 * x1) + 1) : Int32).toNatClampNeg)) 20 32 rfl rfl td_14 rfl tf_15 (b3 c1 c2) rfl ?_
      refine p_if_ne 21 35 75 rfl rfl rfl (fun c3 => ?_) (fun c3 => ?_)
      · refine p_iconst 47 76 rfl rfl ci_0 ?_
        exact t_iret 48 rfl rfl rfl (k3 c1 c2 c3)
      · refine p_aload_n 22 36 1 rfl rfl rfl ?_
        refine t_geti (v := .ref (T + 14)) fl_X2_50 23 39 rfl rfl rfl ?_
        refine p_iload_n 24 40 0 rfl rfl rfl ?_
        refine p_iconst 25 41 rfl rfl ci_2 ?_
        refine p_iadd 26 42 rfl rfl ?_
        refine t_iald (d := 14) (f := 15) (v := (σ.2.1 15 (((8 * x1) + 2) : Int32).toNatClampNeg)) 27 43 rfl rfl td_14 rfl tf_15 (b4 c1 c2 c3) rfl ?_
        refine p_if_ne 28 46 75 rfl rfl rfl (fun c4 => ?_) (fun c4 => ?_)
        · refine p_iconst 47 76 rfl rfl ci_0 ?_
          exact t_iret 48 rfl rfl rfl (k4 c1 c2 c3 c4)
        · refine p_aload_n 29 47 1 rfl rfl rfl ?_
          refine t_geti (v := .ref (T + 14)) fl_X2_50 30 50 rfl rfl rfl ?_
          refine p_iload_n 31 51 0 rfl rfl rfl ?_
          refine p_iconst 32 52 rfl rfl ci_3 ?_
          refine p_iadd 33 53 rfl rfl ?_
          refine t_iald (d := 14) (f := 15) (v := (σ.2.1 15 (((8 * x1) + 3) : Int32).toNatClampNeg)) 34 54 rfl rfl td_14 rfl tf_15 (b5 c1 c2 c3 c4) rfl ?_
          refine p_iconst 35 55 rfl rfl ci_2 ?_
          refine p_icmp_eq 36 58 71 rfl rfl rfl (fun c5 => ?_) (fun c5 => ?_)
          · refine p_iconst 45 72 rfl rfl ci_1 ?_
            refine p_goto 46 76 rfl rfl ?_
            exact t_iret 48 rfl rfl rfl (k5 c1 c2 c3 c4 c5)
          · refine p_aload_n 37 59 1 rfl rfl rfl ?_
            refine t_geti (v := .ref (T + 14)) fl_X2_50 38 62 rfl rfl rfl ?_
            refine p_iload_n 39 63 0 rfl rfl rfl ?_
            refine p_iconst 40 64 rfl rfl ci_3 ?_
            refine p_iadd 41 65 rfl rfl ?_
            refine t_iald (d := 14) (f := 15) (v := (σ.2.1 15 (((8 * x1) + 3) : Int32).toNatClampNeg)) 42 66 rfl rfl td_14 rfl tf_15 (b5 c1 c2 c3 c4) rfl ?_
            refine p_bipush 43 68 rfl rfl cb_6 ?_
            refine p_icmp_ne 44 71 75 rfl rfl rfl (fun c6 => ?_) (fun c6 => ?_)
            · refine p_iconst 47 76 rfl rfl ci_0 ?_
              exact t_iret 48 rfl rfl rfl (k6 c1 c2 c3 c4 c5 c6)
            · refine p_iconst 45 72 rfl rfl ci_1 ?_
              refine p_goto 46 76 rfl rfl ?_
              exact t_iret 48 rfl rfl rfl (k7 c1 c2 c3 c4 c5 c6)
theorem b_alike_0 {G : Gm} {T : Nat} {w : Wd} {σ : TW} {Q : Option Value → TW → Prop} {x1 : Int32} {x2 : Int32} {Q1 : Int32 → TW → Prop} (e1 : Tvi G T w mX2_find (.ref T :: [.int 0, .int x1]) (tsI σ 0 0) Q1) (k1 : ∀ (y1 : Int32) σ1, Q1 y1 σ1 → Tn G T w mX2_alike 11 [(0, .ref T), (2, .int x2)] [.int y1] σ1 Q) : Tn G T w mX2_alike 0 [(0, .ref T), (1, .int x1), (2, .int x2)] [] σ Q := by
  refine p_aload_n 0 1 0 rfl rfl rfl ?_
  refine p_iconst 1 2 rfl rfl ci_0 ?_
  refine t_puti fl_X2_69 2 5 rfl rfl rfl rfl (by decide) (tws_0 _ _ _) ?_
  refine p_aload_n 3 6 0 rfl rfl rfl ?_
  refine p_iconst 4 7 rfl rfl ci_0 ?_
  refine p_iload_n 5 8 1 rfl rfl rfl ?_
  exact t_cVi lk_X2_143 6 11 rfl rfl (by decide) [.int 0, .int x1] rfl rfl (Nat.le_of_ble_eq_true rfl) (Nat.le_of_ble_eq_true rfl) (e1 ) (fun x σ1 h => p_sub [0, 2] rfl (k1 x σ1 h))
theorem b_alike_11 {G : Gm} {T : Nat} {w : Wd} {σ : TW} {Q : Option Value → TW → Prop} {x2 : Int32} {s0 : Int32} {Q1 : Int32 → TW → Prop} (e1 : Tvi G T w mX2_find (.ref T :: [.int 0, .int x2]) σ Q1) (k1 : ∀ (y1 : Int32) σ1, Q1 y1 σ1 → Tn G T w mX2_alike 18 [(0, .ref T), (3, .int s0)] [.int y1] σ1 Q) : Tn G T w mX2_alike 11 [(0, .ref T), (2, .int x2)] [.int s0] σ Q := by
  refine p_istore_n (lv' := [(3, .int s0), (0, .ref T), (2, .int x2)]) 7 12 rfl rfl (Nat.le_of_ble_eq_true rfl) rfl ?_
  refine p_aload_n 8 13 1 rfl rfl rfl ?_
  refine p_iconst 9 14 rfl rfl ci_0 ?_
  refine p_iload_n 10 15 2 rfl rfl rfl ?_
  exact t_cVi lk_X2_143 11 18 rfl rfl (by decide) [.int 0, .int x2] rfl rfl (Nat.le_of_ble_eq_true rfl) (Nat.le_of_ble_eq_true rfl) (e1 ) (fun x σ1 h => p_sub [1, 0] rfl (k1 x σ1 h))
theorem b_alike_18 {G : Gm} {T : Nat} {w : Wd} {σ : TW} {Q : Option Value → TW → Prop} {x3 : Int32} {s0 : Int32} {Q1 : Int32 → TW → Prop} (e1 : x3 = (-1) → Tvi G T w mX2_fails (.ref T :: [.int 1, .int 1]) σ Q1) (k1 : x3 = (-1) → ∀ (y1 : Int32) σ1, Q1 y1 σ1 → Tn G T w mX2_alike 41 [(0, .ref T), (3, .int x3), (4, .int s0)] [.int y1] σ1 Q) {Q2 : Int32 → TW → Prop} (e2 : ¬ x3 = (-1) → ¬ s0 = (-1) → Tvi G T w mX2_fails (.ref T :: [.int 0, .int 1]) σ Q2) (k2 : ¬ x3 = (-1) → ¬ s0 = (-1) → ∀ (y2 : Int32) σ2, Q2 y2 σ2 → Tn G T w mX2_alike 41 [(0, .ref T), (3, .int x3), (4, .int s0)] [.int y2] σ2 Q) {Q3 : Int32 → TW → Prop} (e3 : ¬ x3 = (-1) → s0 = (-1) → Tvi G T w mX2_fails (.ref T :: [.int 1, .int 1]) σ Q3) (k3 : ¬ x3 = (-1) → s0 = (-1) → ∀ (y3 : Int32) σ3, Q3 y3 σ3 → Tn G T w mX2_alike 41 [(0, .ref T), (3, .int x3), (4, .int s0)] [.int y3] σ3 Q) : Tn G T w mX2_alike 18 [(0, .ref T), (3, .int x3)] [.int s0] σ Q := by
  refine p_istore (lv' := [(4, .int s0), (0, .ref T), (3, .int x3)]) 12 20 rfl rfl (Nat.le_of_ble_eq_true rfl) rfl ?_
  refine p_aload_n 13 21 1 rfl rfl rfl ?_
  refine p_iload_n 14 22 2 rfl rfl rfl ?_
  refine p_iconst 15 23 rfl rfl ci_m1 ?_
  refine p_icmp_eq 16 26 32 rfl rfl rfl (fun c1 => ?_) (fun c1 => ?_)
  · refine p_iconst 20 33 rfl rfl ci_1 ?_
    refine p_goto 21 37 rfl rfl ?_
    refine p_iconst 23 38 rfl rfl ci_1 ?_
    exact t_cVi lk_X2_75 24 41 rfl rfl (by decide) [.int 1, .int 1] rfl rfl (Nat.le_of_ble_eq_true rfl) (Nat.le_of_ble_eq_true rfl) (e1 c1) (fun x σ1 h => p_sub [1, 2, 0] rfl (k1 c1 x σ1 h))
  · refine p_iload 17 28 0 rfl rfl rfl ?_
    refine p_iconst 18 29 rfl rfl ci_m1 ?_
    refine p_icmp_ne 19 32 36 rfl rfl rfl (fun c2 => ?_) (fun c2 => ?_)
    · refine p_iconst 22 37 rfl rfl ci_0 ?_
      refine p_iconst 23 38 rfl rfl ci_1 ?_
      exact t_cVi lk_X2_75 24 41 rfl rfl (by decide) [.int 0, .int 1] rfl rfl (Nat.le_of_ble_eq_true rfl) (Nat.le_of_ble_eq_true rfl) (e2 c1 c2) (fun x σ1 h => p_sub [1, 2, 0] rfl (k2 c1 c2 x σ1 h))
    · refine p_iconst 20 33 rfl rfl ci_1 ?_
      refine p_goto 21 37 rfl rfl ?_
      refine p_iconst 23 38 rfl rfl ci_1 ?_
      exact t_cVi lk_X2_75 24 41 rfl rfl (by decide) [.int 1, .int 1] rfl rfl (Nat.le_of_ble_eq_true rfl) (Nat.le_of_ble_eq_true rfl) (e3 c1 c2) (fun x σ1 h => p_sub [1, 2, 0] rfl (k3 c1 c2 x σ1 h))
theorem b_alike_41 {G : Gm} {T : Nat} {w : Wd} {σ : TW} {Q : Option Value → TW → Prop} {x3 : Int32} {x4 : Int32} {s0 : Int32} {Q1 : TW → Prop} (e1 : s0 = 0 → Tvv G T w mX2_findLikes (.ref T :: []) σ Q1) (k1 : s0 = 0 → ∀ σ1, Q1 σ1 → Tn G T w mX2_alike 50 [(0, .ref T), (3, .int x3), (4, .int x4)] [] σ1 Q) (k2 : ¬ s0 = 0 → Q (some (.int 0)) σ) : Tn G T w mX2_alike 41 [(0, .ref T), (3, .int x3), (4, .int x4)] [.int s0] σ Q := by
  refine p_if_eq 25 44 46 rfl rfl rfl (fun c1 => ?_) (fun c1 => ?_)
  · refine p_aload_n 28 47 0 rfl rfl rfl ?_
    exact t_cVv lk_X2_212 29 50 rfl rfl (by decide) [] rfl rfl (Nat.le_of_ble_eq_true rfl) (Nat.le_of_ble_eq_true rfl) (e1 c1) (fun σ1 h => k1 c1 σ1 h)
  · refine p_iconst 26 45 rfl rfl ci_0 ?_
    exact t_iret 27 rfl rfl rfl (k2 c1)
theorem b_alike_50 {G : Gm} {T : Nat} {w : Wd} {σ : TW} {Q : Option Value → TW → Prop} {x3 : Int32} {x4 : Int32} (b1 : vp_in x3 40) (b2 : vp_in x4 40) (k1 : ¬ (σ.2.1 22 (x3 : Int32).toNatClampNeg) = (σ.2.1 22 (x4 : Int32).toNatClampNeg) → Q (some (.int 0)) σ) (k2 : (σ.2.1 22 (x3 : Int32).toNatClampNeg) = (σ.2.1 22 (x4 : Int32).toNatClampNeg) → Q (some (.int 1)) σ) : Tn G T w mX2_alike 50 [(0, .ref T), (3, .int x3), (4, .int x4)] [] σ Q := by
  refine p_aload_n 30 51 0 rfl rfl rfl ?_
  refine t_geti (v := .ref (T + 18)) fl_X2_62 31 54 rfl rfl rfl ?_
  refine p_iload_n 32 55 1 rfl rfl rfl ?_
  refine t_iald (d := 18) (f := 22) (v := (σ.2.1 22 (x3 : Int32).toNatClampNeg)) 33 56 rfl rfl td_18 rfl tf_22 b1 rfl ?_
  refine p_aload_n 34 57 0 rfl rfl rfl ?_
  refine t_geti (v := .ref (T + 18)) fl_X2_62 35 60 rfl rfl rfl ?_
  refine p_iload 36 62 2 rfl rfl rfl ?_
  refine t_iald (d := 18) (f := 22) (v := (σ.2.1 22 (x4 : Int32).toNatClampNeg)) 37 63 rfl rfl td_18 rfl tf_22 b2 rfl ?_
  refine p_icmp_ne 38 66 70 rfl rfl rfl (fun c1 => ?_) (fun c1 => ?_)
  · refine p_iconst 41 71 rfl rfl ci_0 ?_
    exact t_iret 42 rfl rfl rfl (k1 c1)
  · refine p_iconst 39 67 rfl rfl ci_1 ?_
    refine p_goto 40 71 rfl rfl ?_
    exact t_iret 42 rfl rfl rfl (k2 c1)
theorem b_findLikes_0 {G : Gm} {T : Nat} {w : Wd} {σ : TW} {Q : Option Value → TW → Prop} {Q1 : TW → Prop} (e1 : Tvv G T w mX2_findDepths (.ref T :: []) σ Q1) (k1 : ∀ σ1, Q1 σ1 → Tn G T w mX2_findLikes 4 [(0, .ref T)] [] σ1 Q) : Tn G T w mX2_findLikes 0 [(0, .ref T)] [] σ Q := by
  refine p_aload_n 0 1 0 rfl rfl rfl ?_
  exact t_cVv lk_X2_180 1 4 rfl rfl (by decide) [] rfl rfl (Nat.le_of_ble_eq_true rfl) (Nat.le_of_ble_eq_true rfl) (e1 ) (fun σ1 h => k1 σ1 h)
theorem b_findLikes_4 {G : Gm} {T : Nat} {w : Wd} {σ : TW} {Q : Option Value → TW → Prop} (k1 : Tn G T w mX2_findLikes 6 [(0, .ref T), (1, .int 0)] [] σ Q) : Tn G T w mX2_findLikes 4 [(0, .ref T)] [] σ Q := by
  refine p_iconst 2 5 rfl rfl ci_0 ?_
  refine p_istore_n (lv' := [(1, .int 0), (0, .ref T)]) 3 6 rfl rfl (Nat.le_of_ble_eq_true rfl) rfl ?_
  exact p_sub [1, 0] rfl (k1 )
theorem b_findLikes_6 {G : Gm} {T : Nat} {w : Wd} {σ : TW} {Q : Option Value → TW → Prop} {x1 : Int32} (k1 : (40 : Int32) ≤ x1 → Tn G T w mX2_findLikes 27 [(0, .ref T), (1, .int 0)] [] σ Q) (b1 : ¬ (40 : Int32) ≤ x1 → vp_in x1 40) (k2 : ¬ (40 : Int32) ≤ x1 → Tn G T w mX2_findLikes 6 [(0, .ref T), (1, .int (x1 + 1))] [] (tsA σ 22 (x1 : Int32).toNatClampNeg x1) Q) : Tn G T w mX2_findLikes 6 [(0, .ref T), (1, .int x1)] [] σ Q := by
  refine p_iload_n 4 7 1 rfl rfl rfl ?_
  refine p_bipush 5 9 rfl rfl cb_40 ?_
  refine p_icmp_ge 6 12 25 rfl rfl rfl (fun c1 => ?_) (fun c1 => ?_)
  · refine p_iconst 14 26 rfl rfl ci_0 ?_
    refine p_istore_n (lv' := [(1, .int 0), (0, .ref T)]) 15 27 rfl rfl (Nat.le_of_ble_eq_true rfl) rfl ?_
    exact p_sub [1, 0] rfl (k1 c1)
  · refine p_aload_n 7 13 0 rfl rfl rfl ?_
    refine t_geti (v := .ref (T + 18)) fl_X2_62 8 16 rfl rfl rfl ?_
    refine p_iload_n 9 17 1 rfl rfl rfl ?_
    refine p_iload_n 10 18 1 rfl rfl rfl ?_
    refine t_iast (d := 18) (f := 22) 11 19 rfl rfl td_18 rfl tf_22 (b1 c1) ?_
    refine p_iinc (v := (x1 + 1)) (lv' := [(1, .int (x1 + 1)), (0, .ref T)]) 12 22 1 rfl rfl rfl (congrArg (fun z => x1 + z) ci_1) (Nat.le_of_ble_eq_true rfl) rfl ?_
    refine p_goto 13 6 rfl rfl ?_
    exact p_sub [1, 0] rfl (k2 c1)
theorem b_findLikes_27 {G : Gm} {T : Nat} {w : Wd} {σ : TW} {Q : Option Value → TW → Prop} {x1 : Int32} (k1 : (40 : Int32) ≤ x1 → Q none σ) (k2 : ¬ (40 : Int32) ≤ x1 → Tn G T w mX2_findLikes 35 [(0, .ref T), (1, .int x1), (2, .int 0)] [] σ Q) : Tn G T w mX2_findLikes 27 [(0, .ref T), (1, .int x1)] [] σ Q := by
  refine p_iload_n 16 28 1 rfl rfl rfl ?_
  refine p_bipush 17 30 rfl rfl cb_40 ?_
  refine p_icmp_ge 18 33 124 rfl rfl rfl (fun c1 => ?_) (fun c1 => ?_)
  · exact t_vret 70 rfl rfl (k1 c1)
  · refine p_iconst 19 34 rfl rfl ci_0 ?_
    refine p_istore_n (lv' := [(2, .int 0), (0, .ref T), (1, .int x1)]) 20 35 rfl rfl (Nat.le_of_ble_eq_true rfl) rfl ?_
    exact p_sub [1, 2, 0] rfl (k2 c1)
theorem b_findLikes_35 {G : Gm} {T : Nat} {w : Wd} {σ : TW} {Q : Option Value → TW → Prop} {x1 : Int32} {x2 : Int32} (b1 : vp_in 0 3) (k1 : (σ.2.1 10 (0 : Int32).toNatClampNeg) ≤ x2 → Tn G T w mX2_findLikes 27 [(0, .ref T), (1, .int (x1 + 1))] [] σ Q) (b2 : ¬ (σ.2.1 10 (0 : Int32).toNatClampNeg) ≤ x2 → vp_in x2 40) (k2 : ¬ (σ.2.1 10 (0 : Int32).toNatClampNeg) ≤ x2 → (σ.2.1 21 (x2 : Int32).toNatClampNeg) = x1 → Tn G T w mX2_findLikes 60 [(0, .ref T), (1, .int x1), (2, .int x2), (3, .int 0)] [] σ Q) (k3 : ¬ (σ.2.1 10 (0 : Int32).toNatClampNeg) ≤ x2 → ¬ (σ.2.1 21 (x2 : Int32).toNatClampNeg) = x1 → Tn G T w mX2_findLikes 35 [(0, .ref T), (1, .int x1), (2, .int (x2 + 1))] [] σ Q) : Tn G T w mX2_findLikes 35 [(0, .ref T), (1, .int x1), (2, .int x2)] [] σ Q := by
  refine p_iload_n 21 36 2 rfl rfl rfl ?_
  refine p_aload_n 22 37 0 rfl rfl rfl ?_
  refine t_geti (v := .ref (T + 9)) fl_X2_35 23 40 rfl rfl rfl ?_
  refine p_iconst 24 41 rfl rfl ci_0 ?_
  refine t_iald (d := 9) (f := 10) (v := (σ.2.1 10 (0 : Int32).toNatClampNeg)) 25 42 rfl rfl td_9 rfl tf_10 b1 rfl ?_
  refine p_icmp_ge 26 45 118 rfl rfl rfl (fun c1 => ?_) (fun c1 => ?_)
  · refine p_iinc (v := (x1 + 1)) (lv' := [(1, .int (x1 + 1)), (0, .ref T), (2, .int x2)]) 68 121 1 rfl rfl rfl (congrArg (fun z => x1 + z) ci_1) (Nat.le_of_ble_eq_true rfl) rfl ?_
    refine p_goto 69 27 rfl rfl ?_
    exact p_sub [1, 0] rfl (k1 c1)
  · refine p_aload_n 27 46 0 rfl rfl rfl ?_
    refine t_geti (v := .ref (T + 17)) fl_X2_59 28 49 rfl rfl rfl ?_
    refine p_iload_n 29 50 2 rfl rfl rfl ?_
    refine t_iald (d := 17) (f := 21) (v := (σ.2.1 21 (x2 : Int32).toNatClampNeg)) 30 51 rfl rfl td_17 rfl tf_21 (b2 c1) rfl ?_
    refine p_iload_n 31 52 1 rfl rfl rfl ?_
    refine p_icmp_eq 32 55 58 rfl rfl rfl (fun c2 => ?_) (fun c2 => ?_)
    · refine p_iconst 34 59 rfl rfl ci_0 ?_
      refine p_istore_n (lv' := [(3, .int 0), (0, .ref T), (1, .int x1), (2, .int x2)]) 35 60 rfl rfl (Nat.le_of_ble_eq_true rfl) rfl ?_
      exact p_sub [1, 2, 3, 0] rfl (k2 c1 c2)
    · refine p_goto 33 112 rfl rfl ?_
      refine p_iinc (v := (x2 + 1)) (lv' := [(2, .int (x2 + 1)), (0, .ref T), (1, .int x1)]) 66 115 2 rfl rfl rfl (congrArg (fun z => x2 + z) ci_1) (Nat.le_of_ble_eq_true rfl) rfl ?_
      refine p_goto 67 35 rfl rfl ?_
      exact p_sub [1, 2, 0] rfl (k3 c1 c2)
theorem b_findLikes_60 {G : Gm} {T : Nat} {w : Wd} {σ : TW} {Q : Option Value → TW → Prop} {x1 : Int32} {x2 : Int32} {x3 : Int32} (k1 : x2 ≤ x3 → Tn G T w mX2_findLikes 35 [(0, .ref T), (1, .int x1), (2, .int (x2 + 1))] [] σ Q) (b1 : ¬ x2 ≤ x3 → vp_in x2 40) (k2 : ¬ x2 ≤ x3 → ¬ (σ.2.1 22 (x2 : Int32).toNatClampNeg) = x2 → Tn G T w mX2_findLikes 35 [(0, .ref T), (1, .int x1), (2, .int (x2 + 1))] [] σ Q) (b2 : ¬ x2 ≤ x3 → (σ.2.1 22 (x2 : Int32).toNatClampNeg) = x2 → vp_in x3 40) (k3 : ¬ x2 ≤ x3 → (σ.2.1 22 (x2 : Int32).toNatClampNeg) = x2 → ¬ (σ.2.1 21 (x3 : Int32).toNatClampNeg) = x1 → Tn G T w mX2_findLikes 60 [(0, .ref T), (1, .int x1), (2, .int x2), (3, .int (x3 + 1))] [] σ Q) {Q4 : Int32 → TW → Prop} (e4 : ¬ x2 ≤ x3 → (σ.2.1 22 (x2 : Int32).toNatClampNeg) = x2 → (σ.2.1 21 (x3 : Int32).toNatClampNeg) = x1 → Tvi G T w mX2_isLineAlike (.ref T :: [.int x2, .int x3]) σ Q4) (k4 : ¬ x2 ≤ x3 → (σ.2.1 22 (x2 : Int32).toNatClampNeg) = x2 → (σ.2.1 21 (x3 : Int32).toNatClampNeg) = x1 → ∀ (y4 : Int32) σ4, Q4 y4 σ4 → Tn G T w mX2_findLikes 91 [(0, .ref T), (1, .int x1), (2, .int x2), (3, .int x3)] [.int y4] σ4 Q) : Tn G T w mX2_findLikes 60 [(0, .ref T), (1, .int x1), (2, .int x2), (3, .int x3)] [] σ Q := by
  refine p_iload_n 36 61 3 rfl rfl rfl ?_
  refine p_iload_n 37 62 2 rfl rfl rfl ?_
  refine p_icmp_ge 38 65 112 rfl rfl rfl (fun c1 => ?_) (fun c1 => ?_)
  · refine p_iinc (v := (x2 + 1)) (lv' := [(2, .int (x2 + 1)), (0, .ref T), (1, .int x1), (3, .int x3)]) 66 115 2 rfl rfl rfl (congrArg (fun z => x2 + z) ci_1) (Nat.le_of_ble_eq_true rfl) rfl ?_
    refine p_goto 67 35 rfl rfl ?_
    exact p_sub [1, 2, 0] rfl (k1 c1)
  · refine p_aload_n 39 66 0 rfl rfl rfl ?_
    refine t_geti (v := .ref (T + 18)) fl_X2_62 40 69 rfl rfl rfl ?_
    refine p_iload_n 41 70 2 rfl rfl rfl ?_
    refine t_iald (d := 18) (f := 22) (v := (σ.2.1 22 (x2 : Int32).toNatClampNeg)) 42 71 rfl rfl td_18 rfl tf_22 (b1 c1) rfl ?_
    refine p_iload_n 43 72 2 rfl rfl rfl ?_
    refine p_icmp_ne 44 75 112 rfl rfl rfl (fun c2 => ?_) (fun c2 => ?_)
    · refine p_iinc (v := (x2 + 1)) (lv' := [(2, .int (x2 + 1)), (0, .ref T), (1, .int x1), (3, .int x3)]) 66 115 2 rfl rfl rfl (congrArg (fun z => x2 + z) ci_1) (Nat.le_of_ble_eq_true rfl) rfl ?_
      refine p_goto 67 35 rfl rfl ?_
      exact p_sub [1, 2, 0] rfl (k2 c1 c2)
    · refine p_aload_n 45 76 0 rfl rfl rfl ?_
      refine t_geti (v := .ref (T + 17)) fl_X2_59 46 79 rfl rfl rfl ?_
      refine p_iload_n 47 80 3 rfl rfl rfl ?_
      refine t_iald (d := 17) (f := 21) (v := (σ.2.1 21 (x3 : Int32).toNatClampNeg)) 48 81 rfl rfl td_17 rfl tf_21 (b2 c1 c2) rfl ?_
      refine p_iload_n 49 82 1 rfl rfl rfl ?_
      refine p_icmp_ne 50 85 106 rfl rfl rfl (fun c3 => ?_) (fun c3 => ?_)
      · refine p_iinc (v := (x3 + 1)) (lv' := [(3, .int (x3 + 1)), (0, .ref T), (1, .int x1), (2, .int x2)]) 64 109 3 rfl rfl rfl (congrArg (fun z => x3 + z) ci_1) (Nat.le_of_ble_eq_true rfl) rfl ?_
        refine p_goto 65 60 rfl rfl ?_
        exact p_sub [1, 2, 3, 0] rfl (k3 c1 c2 c3)
      · refine p_aload_n 51 86 0 rfl rfl rfl ?_
        refine p_iload_n 52 87 2 rfl rfl rfl ?_
        refine p_iload_n 53 88 3 rfl rfl rfl ?_
        exact t_cVi lk_X2_209 54 91 rfl rfl (by decide) [.int x2, .int x3] rfl rfl (Nat.le_of_ble_eq_true rfl) (Nat.le_of_ble_eq_true rfl) (e4 c1 c2 c3) (fun x σ1 h => k4 c1 c2 c3 x σ1 h)
theorem b_findLikes_91 {G : Gm} {T : Nat} {w : Wd} {σ : TW} {Q : Option Value → TW → Prop} {x1 : Int32} {x2 : Int32} {x3 : Int32} {s0 : Int32} (k1 : s0 = 0 → Tn G T w mX2_findLikes 60 [(0, .ref T), (1, .int x1), (2, .int x2), (3, .int (x3 + 1))] [] σ Q) (b1 : ¬ s0 = 0 → vp_in x3 40) (b2 : ¬ s0 = 0 → vp_in x2 40) (k2 : ¬ s0 = 0 → Tn G T w mX2_findLikes 60 [(0, .ref T), (1, .int x1), (2, .int x2), (3, .int (x3 + 1))] [] (tsA σ 22 (x2 : Int32).toNatClampNeg (σ.2.1 22 (x3 : Int32).toNatClampNeg)) Q) : Tn G T w mX2_findLikes 91 [(0, .ref T), (1, .int x1), (2, .int x2), (3, .int x3)] [.int s0] σ Q := by
  refine p_if_eq 55 94 106 rfl rfl rfl (fun c1 => ?_) (fun c1 => ?_)
  · refine p_iinc (v := (x3 + 1)) (lv' := [(3, .int (x3 + 1)), (0, .ref T), (1, .int x1), (2, .int x2)]) 64 109 3 rfl rfl rfl (congrArg (fun z => x3 + z) ci_1) (Nat.le_of_ble_eq_true rfl) rfl ?_
    refine p_goto 65 60 rfl rfl ?_
    exact p_sub [1, 2, 3, 0] rfl (k1 c1)
  · refine p_aload_n 56 95 0 rfl rfl rfl ?_
    refine t_geti (v := .ref (T + 18)) fl_X2_62 57 98 rfl rfl rfl ?_
    refine p_iload_n 58 99 2 rfl rfl rfl ?_
    refine p_aload_n 59 100 0 rfl rfl rfl ?_
    refine t_geti (v := .ref (T + 18)) fl_X2_62 60 103 rfl rfl rfl ?_
    refine p_iload_n 61 104 3 rfl rfl rfl ?_
    refine t_iald (d := 18) (f := 22) (v := (σ.2.1 22 (x3 : Int32).toNatClampNeg)) 62 105 rfl rfl td_18 rfl tf_22 (b1 c1) rfl ?_
    refine t_iast (d := 18) (f := 22) 63 106 rfl rfl td_18 rfl tf_22 (b2 c1) ?_
    refine p_iinc (v := (x3 + 1)) (lv' := [(3, .int (x3 + 1)), (0, .ref T), (1, .int x1), (2, .int x2)]) 64 109 3 rfl rfl rfl (congrArg (fun z => x3 + z) ci_1) (Nat.le_of_ble_eq_true rfl) rfl ?_
    refine p_goto 65 60 rfl rfl ?_
    exact p_sub [1, 2, 3, 0] rfl (k2 c1)
theorem b_isLineAlike_0 {G : Gm} {T : Nat} {w : Wd} {σ : TW} {Q : Option Value → TW → Prop} {x1 : Int32} {x2 : Int32} (b1 : vp_in x1 120) (b2 : vp_in x2 120) (k1 : ¬ (σ.2.1 12 (x1 : Int32).toNatClampNeg) = (σ.2.1 12 (x2 : Int32).toNatClampNeg) → Tn G T w mX2_isLineAlike 67 [(0, .ref T), (1, .int x1), (2, .int x2), (3, .int 0), (4, .int 0)] [] σ Q) (k2 : (σ.2.1 12 (x1 : Int32).toNatClampNeg) = (σ.2.1 12 (x2 : Int32).toNatClampNeg) → ¬ (σ.2.1 14 (x1 : Int32).toNatClampNeg) = (σ.2.1 14 (x2 : Int32).toNatClampNeg) → Tn G T w mX2_isLineAlike 67 [(0, .ref T), (1, .int x1), (2, .int x2), (3, .int 0), (4, .int 0)] [] σ Q) {Q3 : Int32 → TW → Prop} (e3 : (σ.2.1 12 (x1 : Int32).toNatClampNeg) = (σ.2.1 12 (x2 : Int32).toNatClampNeg) → (σ.2.1 14 (x1 : Int32).toNatClampNeg) = (σ.2.1 14 (x2 : Int32).toNatClampNeg) → Tvi G T w mX2_isSame [.ref (T + 12), .int (8 * x1), .ref (T + 12), .int (8 * x2), .int (σ.2.1 12 (x1 : Int32).toNatClampNeg)] σ Q3) (k3 : (σ.2.1 12 (x1 : Int32).toNatClampNeg) = (σ.2.1 12 (x2 : Int32).toNatClampNeg) → (σ.2.1 14 (x1 : Int32).toNatClampNeg) = (σ.2.1 14 (x2 : Int32).toNatClampNeg) → ∀ (y3 : Int32) σ3, Q3 y3 σ3 → Tn G T w mX2_isLineAlike 55 [(0, .ref T), (1, .int x1), (2, .int x2)] [.int y3] σ3 Q) : Tn G T w mX2_isLineAlike 0 [(0, .ref T), (1, .int x1), (2, .int x2)] [] σ Q := by
  refine p_aload_n 0 1 0 rfl rfl rfl ?_
  refine t_geti (v := .ref (T + 11)) fl_X2_41 1 4 rfl rfl rfl ?_
  refine p_iload_n 2 5 1 rfl rfl rfl ?_
  refine t_iald (d := 11) (f := 12) (v := (σ.2.1 12 (x1 : Int32).toNatClampNeg)) 3 6 rfl rfl td_11 rfl tf_12 b1 rfl ?_
  refine p_aload_n 4 7 0 rfl rfl rfl ?_
  refine t_geti (v := .ref (T + 11)) fl_X2_41 5 10 rfl rfl rfl ?_
  refine p_iload_n 6 11 2 rfl rfl rfl ?_
  refine t_iald (d := 11) (f := 12) (v := (σ.2.1 12 (x2 : Int32).toNatClampNeg)) 7 12 rfl rfl td_11 rfl tf_12 b2 rfl ?_
  refine p_icmp_ne 8 15 62 rfl rfl rfl (fun c1 => ?_) (fun c1 => ?_)
  · refine p_iconst 36 63 rfl rfl ci_0 ?_
    refine p_istore_n (lv' := [(3, .int 0), (0, .ref T), (1, .int x1), (2, .int x2)]) 37 64 rfl rfl (Nat.le_of_ble_eq_true rfl) rfl ?_
    refine p_iconst 38 65 rfl rfl ci_0 ?_
    refine p_istore (lv' := [(4, .int 0), (3, .int 0), (0, .ref T), (1, .int x1), (2, .int x2)]) 39 67 rfl rfl (Nat.le_of_ble_eq_true rfl) rfl ?_
    exact p_sub [2, 3, 4, 1, 0] rfl (k1 c1)
  · refine p_aload_n 9 16 0 rfl rfl rfl ?_
    refine t_geti (v := .ref (T + 13)) fl_X2_47 10 19 rfl rfl rfl ?_
    refine p_iload_n 11 20 1 rfl rfl rfl ?_
    refine t_iald (d := 13) (f := 14) (v := (σ.2.1 14 (x1 : Int32).toNatClampNeg)) 12 21 rfl rfl td_13 rfl tf_14 b1 rfl ?_
    refine p_aload_n 13 22 0 rfl rfl rfl ?_
    refine t_geti (v := .ref (T + 13)) fl_X2_47 14 25 rfl rfl rfl ?_
    refine p_iload_n 15 26 2 rfl rfl rfl ?_
    refine t_iald (d := 13) (f := 14) (v := (σ.2.1 14 (x2 : Int32).toNatClampNeg)) 16 27 rfl rfl td_13 rfl tf_14 b2 rfl ?_
    refine p_icmp_ne 17 30 62 rfl rfl rfl (fun c2 => ?_) (fun c2 => ?_)
    · refine p_iconst 36 63 rfl rfl ci_0 ?_
      refine p_istore_n (lv' := [(3, .int 0), (0, .ref T), (1, .int x1), (2, .int x2)]) 37 64 rfl rfl (Nat.le_of_ble_eq_true rfl) rfl ?_
      refine p_iconst 38 65 rfl rfl ci_0 ?_
      refine p_istore (lv' := [(4, .int 0), (3, .int 0), (0, .ref T), (1, .int x1), (2, .int x2)]) 39 67 rfl rfl (Nat.le_of_ble_eq_true rfl) rfl ?_
      exact p_sub [2, 3, 4, 1, 0] rfl (k2 c1 c2)
    · refine p_aload_n 18 31 0 rfl rfl rfl ?_
      refine t_geti (v := .ref (T + 12)) fl_X2_44 19 34 rfl rfl rfl ?_
      refine p_bipush 20 36 rfl rfl cb_8 ?_
      refine p_iload_n 21 37 1 rfl rfl rfl ?_
      refine p_imul 22 38 rfl rfl ?_
      refine p_aload_n 23 39 0 rfl rfl rfl ?_
      refine t_geti (v := .ref (T + 12)) fl_X2_44 24 42 rfl rfl rfl ?_
      refine p_bipush 25 44 rfl rfl cb_8 ?_
      refine p_iload_n 26 45 2 rfl rfl rfl ?_
      refine p_imul 27 46 rfl rfl ?_
      refine p_aload_n 28 47 0 rfl rfl rfl ?_
      refine t_geti (v := .ref (T + 11)) fl_X2_41 29 50 rfl rfl rfl ?_
      refine p_iload_n 30 51 1 rfl rfl rfl ?_
      refine t_iald (d := 11) (f := 12) (v := (σ.2.1 12 (x1 : Int32).toNatClampNeg)) 31 52 rfl rfl td_11 rfl tf_12 b1 rfl ?_
      exact t_cTi lk_X2_117 32 55 rfl rfl (by decide) [.ref (T + 12), .int (8 * x1), .ref (T + 12), .int (8 * x2), .int (σ.2.1 12 (x1 : Int32).toNatClampNeg)] rfl rfl (Nat.le_of_ble_eq_true rfl) (Nat.le_of_ble_eq_true rfl) (e3 c1 c2) (fun x σ1 h => k3 c1 c2 x σ1 h)
theorem b_isLineAlike_55 {G : Gm} {T : Nat} {w : Wd} {σ : TW} {Q : Option Value → TW → Prop} {x1 : Int32} {x2 : Int32} {s0 : Int32} (k1 : s0 = 0 → Tn G T w mX2_isLineAlike 67 [(0, .ref T), (1, .int x1), (2, .int x2), (3, .int 0), (4, .int 0)] [] σ Q) (k2 : ¬ s0 = 0 → Tn G T w mX2_isLineAlike 67 [(0, .ref T), (1, .int x1), (2, .int x2), (3, .int 1), (4, .int 0)] [] σ Q) : Tn G T w mX2_isLineAlike 55 [(0, .ref T), (1, .int x1), (2, .int x2)] [.int s0] σ Q := by
  refine p_if_eq 33 58 62 rfl rfl rfl (fun c1 => ?_) (fun c1 => ?_)
  · refine p_iconst 36 63 rfl rfl ci_0 ?_
    refine p_istore_n (lv' := [(3, .int 0), (0, .ref T), (1, .int x1), (2, .int x2)]) 37 64 rfl rfl (Nat.le_of_ble_eq_true rfl) rfl ?_
    refine p_iconst 38 65 rfl rfl ci_0 ?_
    refine p_istore (lv' := [(4, .int 0), (3, .int 0), (0, .ref T), (1, .int x1), (2, .int x2)]) 39 67 rfl rfl (Nat.le_of_ble_eq_true rfl) rfl ?_
    exact p_sub [2, 3, 4, 1, 0] rfl (k1 c1)
  · refine p_iconst 34 59 rfl rfl ci_1 ?_
    refine p_goto 35 63 rfl rfl ?_
    refine p_istore_n (lv' := [(3, .int 1), (0, .ref T), (1, .int x1), (2, .int x2)]) 37 64 rfl rfl (Nat.le_of_ble_eq_true rfl) rfl ?_
    refine p_iconst 38 65 rfl rfl ci_0 ?_
    refine p_istore (lv' := [(4, .int 0), (3, .int 1), (0, .ref T), (1, .int x1), (2, .int x2)]) 39 67 rfl rfl (Nat.le_of_ble_eq_true rfl) rfl ?_
    exact p_sub [2, 3, 4, 1, 0] rfl (k2 c1)
theorem b_isLineAlike_67 {G : Gm} {T : Nat} {w : Wd} {σ : TW} {Q : Option Value → TW → Prop} {x1 : Int32} {x2 : Int32} {x3 : Int32} {x4 : Int32} (b1 : vp_in x1 120) (b2 : (σ.2.1 14 (x1 : Int32).toNatClampNeg) ≤ x4 → narrow .boolean (.int x3) = .int x3) (k1 : (σ.2.1 14 (x1 : Int32).toNatClampNeg) ≤ x4 → Q (some (.int x3)) σ) (b3 : ¬ (σ.2.1 14 (x1 : Int32).toNatClampNeg) ≤ x4 → x3 = 0 → narrow .boolean (.int x3) = .int x3) (k2 : ¬ (σ.2.1 14 (x1 : Int32).toNatClampNeg) ≤ x4 → x3 = 0 → Q (some (.int x3)) σ) {Q3 : Int32 → TW → Prop} (e3 : ¬ (σ.2.1 14 (x1 : Int32).toNatClampNeg) ≤ x4 → ¬ x3 = 0 → Tvi G T w mX2_isArgumentAlike (.ref T :: [.int ((8 * x1) + x4), .int ((8 * x2) + x4)]) σ Q3) (k3 : ¬ (σ.2.1 14 (x1 : Int32).toNatClampNeg) ≤ x4 → ¬ x3 = 0 → ∀ (y3 : Int32) σ3, Q3 y3 σ3 → Tn G T w mX2_isLineAlike 100 [(0, .ref T), (1, .int x1), (2, .int x2), (4, .int x4)] [.int y3] σ3 Q) : Tn G T w mX2_isLineAlike 67 [(0, .ref T), (1, .int x1), (2, .int x2), (3, .int x3), (4, .int x4)] [] σ Q := by
  refine p_iload 40 69 4 rfl rfl rfl ?_
  refine p_aload_n 41 70 0 rfl rfl rfl ?_
  refine t_geti (v := .ref (T + 13)) fl_X2_47 42 73 rfl rfl rfl ?_
  refine p_iload_n 43 74 1 rfl rfl rfl ?_
  refine t_iald (d := 13) (f := 14) (v := (σ.2.1 14 (x1 : Int32).toNatClampNeg)) 44 75 rfl rfl td_13 rfl tf_14 b1 rfl ?_
  refine p_icmp_ge 45 78 107 rfl rfl rfl (fun c1 => ?_) (fun c1 => ?_)
  · refine p_iload_n 63 108 3 rfl rfl rfl ?_
    exact t_iret 64 rfl rfl (b2 c1) (k1 c1)
  · refine p_iload_n 46 79 3 rfl rfl rfl ?_
    refine p_if_eq 47 82 107 rfl rfl rfl (fun c2 => ?_) (fun c2 => ?_)
    · refine p_iload_n 63 108 3 rfl rfl rfl ?_
      exact t_iret 64 rfl rfl (b3 c1 c2) (k2 c1 c2)
    · refine p_aload_n 48 83 0 rfl rfl rfl ?_
      refine p_bipush 49 85 rfl rfl cb_8 ?_
      refine p_iload_n 50 86 1 rfl rfl rfl ?_
      refine p_imul 51 87 rfl rfl ?_
      refine p_iload 52 89 4 rfl rfl rfl ?_
      refine p_iadd 53 90 rfl rfl ?_
      refine p_bipush 54 92 rfl rfl cb_8 ?_
      refine p_iload_n 55 93 2 rfl rfl rfl ?_
      refine p_imul 56 94 rfl rfl ?_
      refine p_iload 57 96 4 rfl rfl rfl ?_
      refine p_iadd 58 97 rfl rfl ?_
      exact t_cVi lk_X2_205 59 100 rfl rfl (by decide) [.int ((8 * x1) + x4), .int ((8 * x2) + x4)] rfl rfl (Nat.le_of_ble_eq_true rfl) (Nat.le_of_ble_eq_true rfl) (e3 c1 c2) (fun x σ1 h => p_sub [0, 1, 2, 4] rfl (k3 c1 c2 x σ1 h))
theorem b_isLineAlike_100 {G : Gm} {T : Nat} {w : Wd} {σ : TW} {Q : Option Value → TW → Prop} {x1 : Int32} {x2 : Int32} {x4 : Int32} {s0 : Int32} (k1 : Tn G T w mX2_isLineAlike 67 [(0, .ref T), (1, .int x1), (2, .int x2), (3, .int s0), (4, .int (x4 + 1))] [] σ Q) : Tn G T w mX2_isLineAlike 100 [(0, .ref T), (1, .int x1), (2, .int x2), (4, .int x4)] [.int s0] σ Q := by
  refine p_istore_n (lv' := [(3, .int s0), (0, .ref T), (1, .int x1), (2, .int x2), (4, .int x4)]) 60 101 rfl rfl (Nat.le_of_ble_eq_true rfl) rfl ?_
  refine p_iinc (v := (x4 + 1)) (lv' := [(4, .int (x4 + 1)), (3, .int s0), (0, .ref T), (1, .int x1), (2, .int x2)]) 61 104 4 rfl rfl rfl (congrArg (fun z => x4 + z) ci_1) (Nat.le_of_ble_eq_true rfl) rfl ?_
  refine p_goto 62 67 rfl rfl ?_
  exact p_sub [2, 3, 4, 1, 0] rfl (k1 )
theorem b_isArgumentAlike_0 {G : Gm} {T : Nat} {w : Wd} {σ : TW} {Q : Option Value → TW → Prop} {x1 : Int32} {x2 : Int32} (b1 : vp_in x1 960) (b2 : vp_in x2 960) (k1 : (σ.2.1 15 (x1 : Int32).toNatClampNeg) = (σ.2.1 15 (x2 : Int32).toNatClampNeg) → (σ.2.1 15 (x1 : Int32).toNatClampNeg) = 0 → ¬ (σ.2.1 16 (x1 : Int32).toNatClampNeg) = (σ.2.1 16 (x2 : Int32).toNatClampNeg) → Q (some (.int 0)) σ) (k2 : (σ.2.1 15 (x1 : Int32).toNatClampNeg) = (σ.2.1 15 (x2 : Int32).toNatClampNeg) → (σ.2.1 15 (x1 : Int32).toNatClampNeg) = 0 → (σ.2.1 16 (x1 : Int32).toNatClampNeg) = (σ.2.1 16 (x2 : Int32).toNatClampNeg) → Q (some (.int 1)) σ) (k3 : (σ.2.1 15 (x1 : Int32).toNatClampNeg) = (σ.2.1 15 (x2 : Int32).toNatClampNeg) → ¬ (σ.2.1 15 (x1 : Int32).toNatClampNeg) = 0 → ¬ (σ.2.1 15 (x1 : Int32).toNatClampNeg) = 6 → ¬ (σ.2.1 15 (x1 : Int32).toNatClampNeg) = 2 → (σ.2.1 16 (x1 : Int32).toNatClampNeg) = (σ.2.1 16 (x2 : Int32).toNatClampNeg) → (σ.2.1 15 (x1 : Int32).toNatClampNeg) = 4 → Tn G T w mX2_isArgumentAlike 157 [(0, .ref T), (1, .int x1), (2, .int x2), (3, .int 1), (4, .int 0)] [] σ Q) {Q4 : Int32 → TW → Prop} (e4 : (σ.2.1 15 (x1 : Int32).toNatClampNeg) = (σ.2.1 15 (x2 : Int32).toNatClampNeg) → ¬ (σ.2.1 15 (x1 : Int32).toNatClampNeg) = 0 → ¬ (σ.2.1 15 (x1 : Int32).toNatClampNeg) = 6 → ¬ (σ.2.1 15 (x1 : Int32).toNatClampNeg) = 2 → (σ.2.1 16 (x1 : Int32).toNatClampNeg) = (σ.2.1 16 (x2 : Int32).toNatClampNeg) → ¬ (σ.2.1 15 (x1 : Int32).toNatClampNeg) = 4 → Tvi G T w mX2_isSame [.ref (T + 16), .int (20 * x1), .ref (T + 16), .int (20 * x2), .int (σ.2.1 16 (x1 : Int32).toNatClampNeg)] σ Q4) (k4 : (σ.2.1 15 (x1 : Int32).toNatClampNeg) = (σ.2.1 15 (x2 : Int32).toNatClampNeg) → ¬ (σ.2.1 15 (x1 : Int32).toNatClampNeg) = 0 → ¬ (σ.2.1 15 (x1 : Int32).toNatClampNeg) = 6 → ¬ (σ.2.1 15 (x1 : Int32).toNatClampNeg) = 2 → (σ.2.1 16 (x1 : Int32).toNatClampNeg) = (σ.2.1 16 (x2 : Int32).toNatClampNeg) → ¬ (σ.2.1 15 (x1 : Int32).toNatClampNeg) = 4 → ∀ (y4 : Int32) σ4, Q4 y4 σ4 → Tn G T w mX2_isArgumentAlike 151 [] [.int y4] σ4 Q) (k5 : (σ.2.1 15 (x1 : Int32).toNatClampNeg) = (σ.2.1 15 (x2 : Int32).toNatClampNeg) → ¬ (σ.2.1 15 (x1 : Int32).toNatClampNeg) = 0 → ¬ (σ.2.1 15 (x1 : Int32).toNatClampNeg) = 6 → ¬ (σ.2.1 15 (x1 : Int32).toNatClampNeg) = 2 → ¬ (σ.2.1 16 (x1 : Int32).toNatClampNeg) = (σ.2.1 16 (x2 : Int32).toNatClampNeg) → Q (some (.int 0)) σ) {Q6 : Int32 → TW → Prop} (e6 : (σ.2.1 15 (x1 : Int32).toNatClampNeg) = (σ.2.1 15 (x2 : Int32).toNatClampNeg) → ¬ (σ.2.1 15 (x1 : Int32).toNatClampNeg) = 0 → ¬ (σ.2.1 15 (x1 : Int32).toNatClampNeg) = 6 → (σ.2.1 15 (x1 : Int32).toNatClampNeg) = 2 → Tvi G T w mX2_referred (.ref T :: [.int x1, .int 0]) σ Q6) (k6 : (σ.2.1 15 (x1 : Int32).toNatClampNeg) = (σ.2.1 15 (x2 : Int32).toNatClampNeg) → ¬ (σ.2.1 15 (x1 : Int32).toNatClampNeg) = 0 → ¬ (σ.2.1 15 (x1 : Int32).toNatClampNeg) = 6 → (σ.2.1 15 (x1 : Int32).toNatClampNeg) = 2 → ∀ (y6 : Int32) σ6, Q6 y6 σ6 → Tn G T w mX2_isArgumentAlike 78 [(0, .ref T), (2, .int x2)] [.int y6, .ref (T + 18)] σ6 Q) (k7 : (σ.2.1 15 (x1 : Int32).toNatClampNeg) = (σ.2.1 15 (x2 : Int32).toNatClampNeg) → ¬ (σ.2.1 15 (x1 : Int32).toNatClampNeg) = 0 → (σ.2.1 15 (x1 : Int32).toNatClampNeg) = 6 → ¬ (σ.2.1 16 (x1 : Int32).toNatClampNeg) = (σ.2.1 16 (x2 : Int32).toNatClampNeg) → Q (some (.int 0)) σ) (k8 : (σ.2.1 15 (x1 : Int32).toNatClampNeg) = (σ.2.1 15 (x2 : Int32).toNatClampNeg) → ¬ (σ.2.1 15 (x1 : Int32).toNatClampNeg) = 0 → (σ.2.1 15 (x1 : Int32).toNatClampNeg) = 6 → (σ.2.1 16 (x1 : Int32).toNatClampNeg) = (σ.2.1 16 (x2 : Int32).toNatClampNeg) → Q (some (.int 1)) σ) (k9 : ¬ (σ.2.1 15 (x1 : Int32).toNatClampNeg) = (σ.2.1 15 (x2 : Int32).toNatClampNeg) → Q (some (.int 0)) σ) : Tn G T w mX2_isArgumentAlike 0 [(0, .ref T), (1, .int x1), (2, .int x2)] [] σ Q := by
  refine p_aload_n 0 1 0 rfl rfl rfl ?_
  refine t_geti (v := .ref (T + 14)) fl_X2_50 1 4 rfl rfl rfl ?_
  refine p_iload_n 2 5 1 rfl rfl rfl ?_
  refine t_iald (d := 14) (f := 15) (v := (σ.2.1 15 (x1 : Int32).toNatClampNeg)) 3 6 rfl rfl td_14 rfl tf_15 b1 rfl ?_
  refine p_aload_n 4 7 0 rfl rfl rfl ?_
  refine t_geti (v := .ref (T + 14)) fl_X2_50 5 10 rfl rfl rfl ?_
  refine p_iload_n 6 11 2 rfl rfl rfl ?_
  refine t_iald (d := 14) (f := 15) (v := (σ.2.1 15 (x2 : Int32).toNatClampNeg)) 7 12 rfl rfl td_14 rfl tf_15 b2 rfl ?_
  refine p_icmp_eq 8 15 17 rfl rfl rfl (fun c1 => ?_) (fun c1 => ?_)
  · refine p_aload_n 11 18 0 rfl rfl rfl ?_
    refine t_geti (v := .ref (T + 14)) fl_X2_50 12 21 rfl rfl rfl ?_
    refine p_iload_n 13 22 1 rfl rfl rfl ?_
    refine t_iald (d := 14) (f := 15) (v := (σ.2.1 15 (x1 : Int32).toNatClampNeg)) 14 23 rfl rfl td_14 rfl tf_15 b1 rfl ?_
    refine p_if_eq 15 26 37 rfl rfl rfl (fun c2 => ?_) (fun c2 => ?_)
    · refine p_aload_n 22 38 0 rfl rfl rfl ?_
      refine t_geti (v := .ref (T + 15)) fl_X2_53 23 41 rfl rfl rfl ?_
      refine p_iload_n 24 42 1 rfl rfl rfl ?_
      refine t_iald (d := 15) (f := 16) (v := (σ.2.1 16 (x1 : Int32).toNatClampNeg)) 25 43 rfl rfl td_15 rfl tf_16 b1 rfl ?_
      refine p_aload_n 26 44 0 rfl rfl rfl ?_
      refine t_geti (v := .ref (T + 15)) fl_X2_53 27 47 rfl rfl rfl ?_
      refine p_iload_n 28 48 2 rfl rfl rfl ?_
      refine t_iald (d := 15) (f := 16) (v := (σ.2.1 16 (x2 : Int32).toNatClampNeg)) 29 49 rfl rfl td_15 rfl tf_16 b2 rfl ?_
      refine p_icmp_ne 30 52 56 rfl rfl rfl (fun c3 => ?_) (fun c3 => ?_)
      · refine p_iconst 33 57 rfl rfl ci_0 ?_
        exact t_iret 34 rfl rfl rfl (k1 c1 c2 c3)
      · refine p_iconst 31 53 rfl rfl ci_1 ?_
        refine p_goto 32 57 rfl rfl ?_
        exact t_iret 34 rfl rfl rfl (k2 c1 c2 c3)
    · refine p_aload_n 16 27 0 rfl rfl rfl ?_
      refine t_geti (v := .ref (T + 14)) fl_X2_50 17 30 rfl rfl rfl ?_
      refine p_iload_n 18 31 1 rfl rfl rfl ?_
      refine t_iald (d := 14) (f := 15) (v := (σ.2.1 15 (x1 : Int32).toNatClampNeg)) 19 32 rfl rfl td_14 rfl tf_15 b1 rfl ?_
      refine p_bipush 20 34 rfl rfl cb_6 ?_
      refine p_icmp_ne 21 37 58 rfl rfl rfl (fun c3 => ?_) (fun c3 => ?_)
      · refine p_aload_n 35 59 0 rfl rfl rfl ?_
        refine t_geti (v := .ref (T + 14)) fl_X2_50 36 62 rfl rfl rfl ?_
        refine p_iload_n 37 63 1 rfl rfl rfl ?_
        refine t_iald (d := 14) (f := 15) (v := (σ.2.1 15 (x1 : Int32).toNatClampNeg)) 38 64 rfl rfl td_14 rfl tf_15 b1 rfl ?_
        refine p_iconst 39 65 rfl rfl ci_2 ?_
        refine p_icmp_ne 40 68 99 rfl rfl rfl (fun c4 => ?_) (fun c4 => ?_)
        · refine p_aload_n 60 100 0 rfl rfl rfl ?_
          refine t_geti (v := .ref (T + 15)) fl_X2_53 61 103 rfl rfl rfl ?_
          refine p_iload_n 62 104 1 rfl rfl rfl ?_
          refine t_iald (d := 15) (f := 16) (v := (σ.2.1 16 (x1 : Int32).toNatClampNeg)) 63 105 rfl rfl td_15 rfl tf_16 b1 rfl ?_
          refine p_aload_n 64 106 0 rfl rfl rfl ?_
          refine t_geti (v := .ref (T + 15)) fl_X2_53 65 109 rfl rfl rfl ?_
          refine p_iload_n 66 110 2 rfl rfl rfl ?_
          refine t_iald (d := 15) (f := 16) (v := (σ.2.1 16 (x2 : Int32).toNatClampNeg)) 67 111 rfl rfl td_15 rfl tf_16 b2 rfl ?_
          refine p_icmp_eq 68 114 116 rfl rfl rfl (fun c5 => ?_) (fun c5 => ?_)
          · refine p_aload_n 71 117 0 rfl rfl rfl ?_
            refine t_geti (v := .ref (T + 14)) fl_X2_50 72 120 rfl rfl rfl ?_
            refine p_iload_n 73 121 1 rfl rfl rfl ?_
            refine t_iald (d := 14) (f := 15) (v := (σ.2.1 15 (x1 : Int32).toNatClampNeg)) 74 122 rfl rfl td_14 rfl tf_15 b1 rfl ?_
            refine p_iconst 75 123 rfl rfl ci_4 ?_
            refine p_icmp_eq 76 126 152 rfl rfl rfl (fun c6 => ?_) (fun c6 => ?_)
            · refine p_iconst 93 153 rfl rfl ci_1 ?_
              refine p_istore_n (lv' := [(3, .int 1), (0, .ref T), (1, .int x1), (2, .int x2)]) 94 154 rfl rfl (Nat.le_of_ble_eq_true rfl) rfl ?_
              refine p_iconst 95 155 rfl rfl ci_0 ?_
              refine p_istore (lv' := [(4, .int 0), (3, .int 1), (0, .ref T), (1, .int x1), (2, .int x2)]) 96 157 rfl rfl (Nat.le_of_ble_eq_true rfl) rfl ?_
              exact p_sub [2, 3, 4, 1, 0] rfl (k3 c1 c2 c3 c4 c5 c6)
            · refine p_aload_n 77 127 0 rfl rfl rfl ?_
              refine t_geti (v := .ref (T + 16)) fl_X2_56 78 130 rfl rfl rfl ?_
              refine p_bipush 79 132 rfl rfl cb_20 ?_
              refine p_iload_n 80 133 1 rfl rfl rfl ?_
              refine p_imul 81 134 rfl rfl ?_
              refine p_aload_n 82 135 0 rfl rfl rfl ?_
              refine t_geti (v := .ref (T + 16)) fl_X2_56 83 138 rfl rfl rfl ?_
              refine p_bipush 84 140 rfl rfl cb_20 ?_
              refine p_iload_n 85 141 2 rfl rfl rfl ?_
              refine p_imul 86 142 rfl rfl ?_
              refine p_aload_n 87 143 0 rfl rfl rfl ?_
              refine t_geti (v := .ref (T + 15)) fl_X2_53 88 146 rfl rfl rfl ?_
              refine p_iload_n 89 147 1 rfl rfl rfl ?_
              refine t_iald (d := 15) (f := 16) (v := (σ.2.1 16 (x1 : Int32).toNatClampNeg)) 90 148 rfl rfl td_15 rfl tf_16 b1 rfl ?_
              exact t_cTi lk_X2_117 91 151 rfl rfl (by decide) [.ref (T + 16), .int (20 * x1), .ref (T + 16), .int (20 * x2), .int (σ.2.1 16 (x1 : Int32).toNatClampNeg)] rfl rfl (Nat.le_of_ble_eq_true rfl) (Nat.le_of_ble_eq_true rfl) (e4 c1 c2 c3 c4 c5 c6) (fun x σ1 h => p_sub [] rfl (k4 c1 c2 c3 c4 c5 c6 x σ1 h))
          · refine p_iconst 69 115 rfl rfl ci_0 ?_
            exact t_iret 70 rfl rfl rfl (k5 c1 c2 c3 c4 c5)
        · refine p_aload_n 41 69 0 rfl rfl rfl ?_
          refine t_geti (v := .ref (T + 18)) fl_X2_62 42 72 rfl rfl rfl ?_
          refine p_aload_n 43 73 0 rfl rfl rfl ?_
          refine p_iload_n 44 74 1 rfl rfl rfl ?_
          refine p_iconst 45 75 rfl rfl ci_0 ?_
          exact t_cVi lk_X2_174 46 78 rfl rfl (by decide) [.int x1, .int 0] rfl rfl (Nat.le_of_ble_eq_true rfl) (Nat.le_of_ble_eq_true rfl) (e6 c1 c2 c3 c4) (fun x σ1 h => p_sub [0, 2] rfl (k6 c1 c2 c3 c4 x σ1 h))
      · refine p_aload_n 22 38 0 rfl rfl rfl ?_
        refine t_geti (v := .ref (T + 15)) fl_X2_53 23 41 rfl rfl rfl ?_
        refine p_iload_n 24 42 1 rfl rfl rfl ?_
        refine t_iald (d := 15) (f := 16) (v := (σ.2.1 16 (x1 : Int32).toNatClampNeg)) 25 43 rfl rfl td_15 rfl tf_16 b1 rfl ?_
        refine p_aload_n 26 44 0 rfl rfl rfl ?_
        refine t_geti (v := .ref (T + 15)) fl_X2_53 27 47 rfl rfl rfl ?_
        refine p_iload_n 28 48 2 rfl rfl rfl ?_
        refine t_iald (d := 15) (f := 16) (v := (σ.2.1 16 (x2 : Int32).toNatClampNeg)) 29 49 rfl rfl td_15 rfl tf_16 b2 rfl ?_
        refine p_icmp_ne 30 52 56 rfl rfl rfl (fun c4 => ?_) (fun c4 => ?_)
        · refine p_iconst 33 57 rfl rfl ci_0 ?_
          exact t_iret 34 rfl rfl rfl (k7 c1 c2 c3 c4)
        · refine p_iconst 31 53 rfl rfl ci_1 ?_
          refine p_goto 32 57 rfl rfl ?_
          exact t_iret 34 rfl rfl rfl (k8 c1 c2 c3 c4)
  · refine p_iconst 9 16 rfl rfl ci_0 ?_
    exact t_iret 10 rfl rfl rfl (k9 c1)
theorem b_isArgumentAlike_78 {G : Gm} {T : Nat} {w : Wd} {σ : TW} {Q : Option Value → TW → Prop} {x2 : Int32} {s0 : Int32} (b1 : vp_in s0 40) {Q1 : Int32 → TW → Prop} (e1 : Tvi G T w mX2_referred (.ref T :: [.int x2, .int 0]) σ Q1) (k1 : ∀ (y1 : Int32) σ1, Q1 y1 σ1 → Tn G T w mX2_isArgumentAlike 89 [] [.int y1, .ref (T + 18), .int (σ.2.1 22 (s0 : Int32).toNatClampNeg)] σ1 Q) : Tn G T w mX2_isArgumentAlike 78 [(0, .ref T), (2, .int x2)] [.int s0, .ref (T + 18)] σ Q := by
  refine t_iald (d := 18) (f := 22) (v := (σ.2.1 22 (s0 : Int32).toNatClampNeg)) 47 79 rfl rfl td_18 rfl tf_22 b1 rfl ?_
  refine p_aload_n 48 80 0 rfl rfl rfl ?_
  refine t_geti (v := .ref (T + 18)) fl_X2_62 49 83 rfl rfl rfl ?_
  refine p_aload_n 50 84 0 rfl rfl rfl ?_
  refine p_iload_n 51 85 1 rfl rfl rfl ?_
  refine p_iconst 52 86 rfl rfl ci_0 ?_
  exact t_cVi lk_X2_174 53 89 rfl rfl (by decide) [.int x2, .int 0] rfl rfl (Nat.le_of_ble_eq_true rfl) (Nat.le_of_ble_eq_true rfl) (e1 ) (fun x σ1 h => p_sub [] rfl (k1 x σ1 h))
theorem b_isArgumentAlike_89 {G : Gm} {T : Nat} {w : Wd} {σ : TW} {Q : Option Value → TW → Prop} {s0 : Int32} {s2 : Int32} (b1 : vp_in s0 40) (k1 : ¬ s2 = (σ.2.1 22 (s0 : Int32).toNatClampNeg) → Q (some (.int 0)) σ) (k2 : s2 = (σ.2.1 22 (s0 : Int32).toNatClampNeg) → Q (some (.int 1)) σ) : Tn G T w mX2_isArgumentAlike 89 [] [.int s0, .ref (T + 18), .int s2] σ Q := by
  refine t_iald (d := 18) (f := 22) (v := (σ.2.1 22 (s0 : Int32).toNatClampNeg)) 54 90 rfl rfl td_18 rfl tf_22 b1 rfl ?_
  refine p_icmp_ne 55 93 97 rfl rfl rfl (fun c1 => ?_) (fun c1 => ?_)
  · refine p_iconst 58 98 rfl rfl ci_0 ?_
    exact t_iret 59 rfl rfl rfl (k1 c1)
  · refine p_iconst 56 94 rfl rfl ci_1 ?_
    refine p_goto 57 98 rfl rfl ?_
    exact t_iret 59 rfl rfl rfl (k2 c1)
theorem b_isArgumentAlike_151 {G : Gm} {T : Nat} {w : Wd} {σ : TW} {Q : Option Value → TW → Prop} {s0 : Int32} (b1 : narrow .boolean (.int s0) = .int s0) (k1 : Q (some (.int s0)) σ) : Tn G T w mX2_isArgumentAlike 151 [] [.int s0] σ Q := by
  exact t_iret 92 rfl rfl b1 (k1 )
theorem b_isArgumentAlike_157 {G : Gm} {T : Nat} {w : Wd} {σ : TW} {Q : Option Value → TW → Prop} {x1 : Int32} {x2 : Int32} {x3 : Int32} {x4 : Int32} (b1 : vp_in x1 960) (b2 : (σ.2.1 16 (x1 : Int32).toNatClampNeg) ≤ x4 → narrow .boolean (.int x3) = .int x3) (k1 : (σ.2.1 16 (x1 : Int32).toNatClampNeg) ≤ x4 → Q (some (.int x3)) σ) (k2 : ¬ (σ.2.1 16 (x1 : Int32).toNatClampNeg) ≤ x4 → x3 = 0 → Tn G T w mX2_isArgumentAlike 157 [(0, .ref T), (1, .int x1), (2, .int x2), (3, .int 0), (4, .int (x4 + 1))] [] σ Q) {Q3 : Int32 → TW → Prop} (e3 : ¬ (σ.2.1 16 (x1 : Int32).toNatClampNeg) ≤ x4 → ¬ x3 = 0 → Tvi G T w mX2_referred (.ref T :: [.int x1, .int x4]) σ Q3) (k3 : ¬ (σ.2.1 16 (x1 : Int32).toNatClampNeg) ≤ x4 → ¬ x3 = 0 → ∀ (y3 : Int32) σ3, Q3 y3 σ3 → Tn G T w mX2_isArgumentAlike 183 [(0, .ref T), (1, .int x1), (2, .int x2), (4, .int x4)] [.int y3, .ref (T + 18)] σ3 Q) : Tn G T w mX2_isArgumentAlike 157 [(0, .ref T), (1, .int x1), (2, .int x2), (3, .int x3), (4, .int x4)] [] σ Q := by
  refine p_iload 97 159 4 rfl rfl rfl ?_
  refine p_aload_n 98 160 0 rfl rfl rfl ?_
  refine t_geti (v := .ref (T + 15)) fl_X2_53 99 163 rfl rfl rfl ?_
  refine p_iload_n 100 164 1 rfl rfl rfl ?_
  refine t_iald (d := 15) (f := 16) (v := (σ.2.1 16 (x1 : Int32).toNatClampNeg)) 101 165 rfl rfl td_15 rfl tf_16 b1 rfl ?_
  refine p_icmp_ge 102 168 211 rfl rfl rfl (fun c1 => ?_) (fun c1 => ?_)
  · refine p_iload_n 126 212 3 rfl rfl rfl ?_
    exact t_iret 127 rfl rfl (b2 c1) (k1 c1)
  · refine p_iload_n 103 169 3 rfl rfl rfl ?_
    refine p_if_eq 104 172 203 rfl rfl rfl (fun c2 => ?_) (fun c2 => ?_)
    · refine p_iconst 122 204 rfl rfl ci_0 ?_
      refine p_istore_n (lv' := [(3, .int 0), (0, .ref T), (1, .int x1), (2, .int x2), (4, .int x4)]) 123 205 rfl rfl (Nat.le_of_ble_eq_true rfl) rfl ?_
      refine p_iinc (v := (x4 + 1)) (lv' := [(4, .int (x4 + 1)), (3, .int 0), (0, .ref T), (1, .int x1), (2, .int x2)]) 124 208 4 rfl rfl rfl (congrArg (fun z => x4 + z) ci_1) (Nat.le_of_ble_eq_true rfl) rfl ?_
      refine p_goto 125 157 rfl rfl ?_
      exact p_sub [2, 3, 4, 1, 0] rfl (k2 c1 c2)
    · refine p_aload_n 105 173 0 rfl rfl rfl ?_
      refine t_geti (v := .ref (T + 18)) fl_X2_62 106 176 rfl rfl rfl ?_
      refine p_aload_n 107 177 0 rfl rfl rfl ?_
      refine p_iload_n 108 178 1 rfl rfl rfl ?_
      refine p_iload 109 180 4 rfl rfl rfl ?_
      exact t_cVi lk_X2_174 110 183 rfl rfl (by decide) [.int x1, .int x4] rfl rfl (Nat.le_of_ble_eq_true rfl) (Nat.le_of_ble_eq_true rfl) (e3 c1 c2) (fun x σ1 h => p_sub [0, 1, 2, 4] rfl (k3 c1 c2 x σ1 h))
theorem b_isArgumentAlike_183 {G : Gm} {T : Nat} {w : Wd} {σ : TW} {Q : Option Value → TW → Prop} {x1 : Int32} {x2 : Int32} {x4 : Int32} {s0 : Int32} (b1 : vp_in s0 40) {Q1 : Int32 → TW → Prop} (e1 : Tvi G T w mX2_referred (.ref T :: [.int x2, .int x4]) σ Q1) (k1 : ∀ (y1 : Int32) σ1, Q1 y1 σ1 → Tn G T w mX2_isArgumentAlike 195 [(0, .ref T), (1, .int x1), (2, .int x2), (4, .int x4)] [.int y1, .ref (T + 18), .int (σ.2.1 22 (s0 : Int32).toNatClampNeg)] σ1 Q) : Tn G T w mX2_isArgumentAlike 183 [(0, .ref T), (1, .int x1), (2, .int x2), (4, .int x4)] [.int s0, .ref (T + 18)] σ Q := by
  refine t_iald (d := 18) (f := 22) (v := (σ.2.1 22 (s0 : Int32).toNatClampNeg)) 111 184 rfl rfl td_18 rfl tf_22 b1 rfl ?_
  refine p_aload_n 112 185 0 rfl rfl rfl ?_
  refine t_geti (v := .ref (T + 18)) fl_X2_62 113 188 rfl rfl rfl ?_
  refine p_aload_n 114 189 0 rfl rfl rfl ?_
  refine p_iload_n 115 190 2 rfl rfl rfl ?_
  refine p_iload 116 192 3 rfl rfl rfl ?_
  exact t_cVi lk_X2_174 117 195 rfl rfl (by decide) [.int x2, .int x4] rfl rfl (Nat.le_of_ble_eq_true rfl) (Nat.le_of_ble_eq_true rfl) (e1 ) (fun x σ1 h => k1 x σ1 h)
theorem b_isArgumentAlike_195 {G : Gm} {T : Nat} {w : Wd} {σ : TW} {Q : Option Value → TW → Prop} {x1 : Int32} {x2 : Int32} {x4 : Int32} {s0 : Int32} {s2 : Int32} (b1 : vp_in s0 40) (k1 : ¬ s2 = (σ.2.1 22 (s0 : Int32).toNatClampNeg) → Tn G T w mX2_isArgumentAlike 157 [(0, .ref T), (1, .int x1), (2, .int x2), (3, .int 0), (4, .int (x4 + 1))] [] σ Q) (k2 : s2 = (σ.2.1 22 (s0 : Int32).toNatClampNeg) → Tn G T w mX2_isArgumentAlike 157 [(0, .ref T), (1, .int x1), (2, .int x2), (3, .int 1), (4, .int (x4 + 1))] [] σ Q) : Tn G T w mX2_isArgumentAlike 195 [(0, .ref T), (1, .int x1), (2, .int x2), (4, .int x4)] [.int s0, .ref (T + 18), .int s2] σ Q := by
  refine t_iald (d := 18) (f := 22) (v := (σ.2.1 22 (s0 : Int32).toNatClampNeg)) 118 196 rfl rfl td_18 rfl tf_22 b1 rfl ?_
  refine p_icmp_ne 119 199 203 rfl rfl rfl (fun c1 => ?_) (fun c1 => ?_)
  · refine p_iconst 122 204 rfl rfl ci_0 ?_
    refine p_istore_n (lv' := [(3, .int 0), (0, .ref T), (1, .int x1), (2, .int x2), (4, .int x4)]) 123 205 rfl rfl (Nat.le_of_ble_eq_true rfl) rfl ?_
    refine p_iinc (v := (x4 + 1)) (lv' := [(4, .int (x4 + 1)), (3, .int 0), (0, .ref T), (1, .int x1), (2, .int x2)]) 124 208 4 rfl rfl rfl (congrArg (fun z => x4 + z) ci_1) (Nat.le_of_ble_eq_true rfl) rfl ?_
    refine p_goto 125 157 rfl rfl ?_
    exact p_sub [2, 3, 4, 1, 0] rfl (k1 c1)
  · refine p_iconst 120 200 rfl rfl ci_1 ?_
    refine p_goto 121 204 rfl rfl ?_
    refine p_istore_n (lv' := [(3, .int 1), (0, .ref T), (1, .int x1), (2, .int x2), (4, .int x4)]) 123 205 rfl rfl (Nat.le_of_ble_eq_true rfl) rfl ?_
    refine p_iinc (v := (x4 + 1)) (lv' := [(4, .int (x4 + 1)), (3, .int 1), (0, .ref T), (1, .int x1), (2, .int x2)]) 124 208 4 rfl rfl rfl (congrArg (fun z => x4 + z) ci_1) (Nat.le_of_ble_eq_true rfl) rfl ?_
    refine p_goto 125 157 rfl rfl ?_
    exact p_sub [2, 3, 4, 1, 0] rfl (k2 c1)
theorem b_join_0 {G : Gm} {T : Nat} {w : Wd} {σ : TW} {Q : Option Value → TW → Prop} {Q1 : TW → Prop} (e1 : Tvv G T w mX2_findLikes (.ref T :: []) (tsI σ 0 0) Q1) (k1 : ∀ σ1, Q1 σ1 → Tn G T w mX2_join 9 [(0, .ref T)] [] σ1 Q) : Tn G T w mX2_join 0 [(0, .ref T)] [] σ Q := by
  refine p_aload_n 0 1 0 rfl rfl rfl ?_
  refine p_iconst 1 2 rfl rfl ci_0 ?_
  refine t_puti fl_X2_69 2 5 rfl rfl rfl rfl (by decide) (tws_0 _ _ _) ?_
  refine p_aload_n 3 6 0 rfl rfl rfl ?_
  exact t_cVv lk_X2_212 4 9 rfl rfl (by decide) [] rfl rfl (Nat.le_of_ble_eq_true rfl) (Nat.le_of_ble_eq_true rfl) (e1 ) (fun σ1 h => k1 σ1 h)
theorem b_join_9 {G : Gm} {T : Nat} {w : Wd} {σ : TW} {Q : Option Value → TW → Prop} (k1 : Tn G T w mX2_join 11 [(0, .ref T), (1, .int 0)] [] σ Q) : Tn G T w mX2_join 9 [(0, .ref T)] [] σ Q := by
  refine p_iconst 5 10 rfl rfl ci_0 ?_
  refine p_istore_n (lv' := [(1, .int 0), (0, .ref T)]) 6 11 rfl rfl (Nat.le_of_ble_eq_true rfl) rfl ?_
  exact p_sub [1, 0] rfl (k1 )
theorem b_join_11 {G : Gm} {T : Nat} {w : Wd} {σ : TW} {Q : Option Value → TW → Prop} {x1 : Int32} (b1 : vp_in 0 3) (k1 : (σ.2.1 10 (0 : Int32).toNatClampNeg) ≤ x1 → Tn G T w mX2_join 146 [(0, .ref T), (1, .int 0), (2, .int 0), (3, .int 0)] [] σ Q) (k2 : ¬ (σ.2.1 10 (0 : Int32).toNatClampNeg) ≤ x1 → Tn G T w mX2_join 26 [(0, .ref T), (1, .int x1), (2, .int (8 * x1))] [] σ Q) : Tn G T w mX2_join 11 [(0, .ref T), (1, .int x1)] [] σ Q := by
  refine p_iload_n 7 12 1 rfl rfl rfl ?_
  refine p_aload_n 8 13 0 rfl rfl rfl ?_
  refine t_geti (v := .ref (T + 9)) fl_X2_35 9 16 rfl rfl rfl ?_
  refine p_iconst 10 17 rfl rfl ci_0 ?_
  refine t_iald (d := 9) (f := 10) (v := (σ.2.1 10 (0 : Int32).toNatClampNeg)) 11 18 rfl rfl td_9 rfl tf_10 b1 rfl ?_
  refine p_icmp_ge 12 21 140 rfl rfl rfl (fun c1 => ?_) (fun c1 => ?_)
  · refine p_iconst 85 141 rfl rfl ci_0 ?_
    refine p_istore_n (lv' := [(1, .int 0), (0, .ref T)]) 86 142 rfl rfl (Nat.le_of_ble_eq_true rfl) rfl ?_
    refine p_iconst 87 143 rfl rfl ci_0 ?_
    refine p_istore_n (lv' := [(2, .int 0), (1, .int 0), (0, .ref T)]) 88 144 rfl rfl (Nat.le_of_ble_eq_true rfl) rfl ?_
    refine p_iconst 89 145 rfl rfl ci_0 ?_
    refine p_istore_n (lv' := [(3, .int 0), (2, .int 0), (1, .int 0), (0, .ref T)]) 90 146 rfl rfl (Nat.le_of_ble_eq_true rfl) rfl ?_
    exact p_sub [3, 2, 1, 0] rfl (k1 c1)
  · refine p_bipush 13 23 rfl rfl cb_8 ?_
    refine p_iload_n 14 24 1 rfl rfl rfl ?_
    refine p_imul 15 25 rfl rfl ?_
    refine p_istore_n (lv' := [(2, .int (8 * x1)), (0, .ref T), (1, .int x1)]) 16 26 rfl rfl (Nat.le_of_ble_eq_true rfl) rfl ?_
    exact p_sub [1, 2, 0] rfl (k2 c1)
theorem b_join_26 {G : Gm} {T : Nat} {w : Wd} {σ : TW} {Q : Option Value → TW → Prop} {x1 : Int32} {x2 : Int32} (b1 : vp_in x1 120) (k1 : ((8 * x1) + (σ.2.1 14 (x1 : Int32).toNatClampNeg)) ≤ x2 → Tn G T w mX2_join 11 [(0, .ref T), (1, .int (x1 + 1))] [] σ Q) (b2 : ¬ ((8 * x1) + (σ.2.1 14 (x1 : Int32).toNatClampNeg)) ≤ x2 → vp_in x2 960) (k2 : ¬ ((8 * x1) + (σ.2.1 14 (x1 : Int32).toNatClampNeg)) ≤ x2 → ¬ (σ.2.1 15 (x2 : Int32).toNatClampNeg) = 2 → Tn G T w mX2_join 75 [(0, .ref T), (1, .int x1), (2, .int x2), (3, .int 0)] [] σ Q) {Q3 : Int32 → TW → Prop} (e3 : ¬ ((8 * x1) + (σ.2.1 14 (x1 : Int32).toNatClampNeg)) ≤ x2 → (σ.2.1 15 (x2 : Int32).toNatClampNeg) = 2 → Tvi G T w mX2_referred (.ref T :: [.int x2, .int 0]) σ Q3) (k3 : ¬ ((8 * x1) + (σ.2.1 14 (x1 : Int32).toNatClampNeg)) ≤ x2 → (σ.2.1 15 (x2 : Int32).toNatClampNeg) = 2 → ∀ (y3 : Int32) σ3, Q3 y3 σ3 → Tn G T w mX2_join 70 [(0, .ref T), (1, .int x1), (2, .int x2)] [.int y3, .ref (T + 18), .ref (T + 10), .int x2, .ref (T + 15)] σ3 Q) : Tn G T w mX2_join 26 [(0, .ref T), (1, .int x1), (2, .int x2)] [] σ Q := by
  refine p_iload_n 17 27 2 rfl rfl rfl ?_
  refine p_bipush 18 29 rfl rfl cb_8 ?_
  refine p_iload_n 19 30 1 rfl rfl rfl ?_
  refine p_imul 20 31 rfl rfl ?_
  refine p_aload_n 21 32 0 rfl rfl rfl ?_
  refine t_geti (v := .ref (T + 13)) fl_X2_47 22 35 rfl rfl rfl ?_
  refine p_iload_n 23 36 1 rfl rfl rfl ?_
  refine t_iald (d := 13) (f := 14) (v := (σ.2.1 14 (x1 : Int32).toNatClampNeg)) 24 37 rfl rfl td_13 rfl tf_14 b1 rfl ?_
  refine p_iadd 25 38 rfl rfl ?_
  refine p_icmp_ge 26 41 134 rfl rfl rfl (fun c1 => ?_) (fun c1 => ?_)
  · refine p_iinc (v := (x1 + 1)) (lv' := [(1, .int (x1 + 1)), (0, .ref T), (2, .int x2)]) 83 137 1 rfl rfl rfl (congrArg (fun z => x1 + z) ci_1) (Nat.le_of_ble_eq_true rfl) rfl ?_
    refine p_goto 84 11 rfl rfl ?_
    exact p_sub [1, 0] rfl (k1 c1)
  · refine p_aload_n 27 42 0 rfl rfl rfl ?_
    refine t_geti (v := .ref (T + 14)) fl_X2_50 28 45 rfl rfl rfl ?_
    refine p_iload_n 29 46 2 rfl rfl rfl ?_
    refine t_iald (d := 14) (f := 15) (v := (σ.2.1 15 (x2 : Int32).toNatClampNeg)) 30 47 rfl rfl td_14 rfl tf_15 (b2 c1) rfl ?_
    refine p_iconst 31 48 rfl rfl ci_2 ?_
    refine p_icmp_ne 32 51 73 rfl rfl rfl (fun c2 => ?_) (fun c2 => ?_)
    · refine p_iconst 47 74 rfl rfl ci_0 ?_
      refine p_istore_n (lv' := [(3, .int 0), (0, .ref T), (1, .int x1), (2, .int x2)]) 48 75 rfl rfl (Nat.le_of_ble_eq_true rfl) rfl ?_
      exact p_sub [1, 2, 3, 0] rfl (k2 c1 c2)
    · refine p_aload_n 33 52 0 rfl rfl rfl ?_
      refine t_geti (v := .ref (T + 15)) fl_X2_53 34 55 rfl rfl rfl ?_
      refine p_iload_n 35 56 2 rfl rfl rfl ?_
      refine p_aload_n 36 57 0 rfl rfl rfl ?_
      refine t_geti (v := .ref (T + 10)) fl_X2_38 37 60 rfl rfl rfl ?_
      refine p_aload_n 38 61 0 rfl rfl rfl ?_
      refine t_geti (v := .ref (T + 18)) fl_X2_62 39 64 rfl rfl rfl ?_
      refine p_aload_n 40 65 0 rfl rfl rfl ?_
      refine p_iload_n 41 66 2 rfl rfl rfl ?_
      refine p_iconst 42 67 rfl rfl ci_0 ?_
      exact t_cVi lk_X2_174 43 70 rfl rfl (by decide) [.int x2, .int 0] rfl rfl (Nat.le_of_ble_eq_true rfl) (Nat.le_of_ble_eq_true rfl) (e3 c1 c2) (fun x σ1 h => k3 c1 c2 x σ1 h)
theorem b_join_70 {G : Gm} {T : Nat} {w : Wd} {σ : TW} {Q : Option Value → TW → Prop} {x1 : Int32} {x2 : Int32} {s0 : Int32} {s3 : Int32} (b1 : vp_in s0 40) (b2 : vp_in (σ.2.1 22 (s0 : Int32).toNatClampNeg) 120) (b3 : vp_in s3 960) (k1 : Tn G T w mX2_join 75 [(0, .ref T), (1, .int x1), (2, .int x2), (3, .int 0)] [] (tsA σ 16 (s3 : Int32).toNatClampNeg (σ.2.1 11 ((σ.2.1 22 (s0 : Int32).toNatClampNeg) : Int32).toNatClampNeg)) Q) : Tn G T w mX2_join 70 [(0, .ref T), (1, .int x1), (2, .int x2)] [.int s0, .ref (T + 18), .ref (T + 10), .int s3, .ref (T + 15)] σ Q := by
  refine t_iald (d := 18) (f := 22) (v := (σ.2.1 22 (s0 : Int32).toNatClampNeg)) 44 71 rfl rfl td_18 rfl tf_22 b1 rfl ?_
  refine t_iald (d := 10) (f := 11) (v := (σ.2.1 11 ((σ.2.1 22 (s0 : Int32).toNatClampNeg) : Int32).toNatClampNeg)) 45 72 rfl rfl td_10 rfl tf_11 b2 rfl ?_
  refine t_iast (d := 15) (f := 16) 46 73 rfl rfl td_15 rfl tf_16 b3 ?_
  refine p_iconst 47 74 rfl rfl ci_0 ?_
  refine p_istore_n (lv' := [(3, .int 0), (0, .ref T), (1, .int x1), (2, .int x2)]) 48 75 rfl rfl (Nat.le_of_ble_eq_true rfl) rfl ?_
  exact p_sub [1, 2, 3, 0] rfl (k1 )
theorem b_join_75 {G : Gm} {T : Nat} {w : Wd} {σ : TW} {Q : Option Value → TW → Prop} {x1 : Int32} {x2 : Int32} {x3 : Int32} (b1 : vp_in x2 960) (k1 : (σ.2.1 16 (x2 : Int32).toNatClampNeg) ≤ x3 → Tn G T w mX2_join 26 [(0, .ref T), (1, .int x1), (2, .int (x2 + 1))] [] σ Q) (k2 : ¬ (σ.2.1 16 (x2 : Int32).toNatClampNeg) ≤ x3 → ¬ (σ.2.1 15 (x2 : Int32).toNatClampNeg) = 4 → Tn G T w mX2_join 26 [(0, .ref T), (1, .int x1), (2, .int (x2 + 1))] [] σ Q) {Q3 : Int32 → TW → Prop} (e3 : ¬ (σ.2.1 16 (x2 : Int32).toNatClampNeg) ≤ x3 → (σ.2.1 15 (x2 : Int32).toNatClampNeg) = 4 → Tvi G T w mX2_referred (.ref T :: [.int x2, .int x3]) σ Q3) (k3 : ¬ (σ.2.1 16 (x2 : Int32).toNatClampNeg) ≤ x3 → (σ.2.1 15 (x2 : Int32).toNatClampNeg) = 4 → ∀ (y3 : Int32) σ3, Q3 y3 σ3 → Tn G T w mX2_join 119 [(0, .ref T), (1, .int x1), (2, .int x2), (3, .int x3)] [.int y3, .ref (T + 18), .ref (T + 10), .int ((20 * x2) + x3), .ref (T + 16)] σ3 Q) : Tn G T w mX2_join 75 [(0, .ref T), (1, .int x1), (2, .int x2), (3, .int x3)] [] σ Q := by
  refine p_iload_n 49 76 3 rfl rfl rfl ?_
  refine p_aload_n 50 77 0 rfl rfl rfl ?_
  refine t_geti (v := .ref (T + 15)) fl_X2_53 51 80 rfl rfl rfl ?_
  refine p_iload_n 52 81 2 rfl rfl rfl ?_
  refine t_iald (d := 15) (f := 16) (v := (σ.2.1 16 (x2 : Int32).toNatClampNeg)) 53 82 rfl rfl td_15 rfl tf_16 b1 rfl ?_
  refine p_icmp_ge 54 85 128 rfl rfl rfl (fun c1 => ?_) (fun c1 => ?_)
  · refine p_iinc (v := (x2 + 1)) (lv' := [(2, .int (x2 + 1)), (0, .ref T), (1, .int x1), (3, .int x3)]) 81 131 2 rfl rfl rfl (congrArg (fun z => x2 + z) ci_1) (Nat.le_of_ble_eq_true rfl) rfl ?_
    refine p_goto 82 26 rfl rfl ?_
    exact p_sub [1, 2, 0] rfl (k1 c1)
  · refine p_aload_n 55 86 0 rfl rfl rfl ?_
    refine t_geti (v := .ref (T + 14)) fl_X2_50 56 89 rfl rfl rfl ?_
    refine p_iload_n 57 90 2 rfl rfl rfl ?_
    refine t_iald (d := 14) (f := 15) (v := (σ.2.1 15 (x2 : Int32).toNatClampNeg)) 58 91 rfl rfl td_14 rfl tf_15 b1 rfl ?_
    refine p_iconst 59 92 rfl rfl ci_4 ?_
    refine p_icmp_ne 60 95 128 rfl rfl rfl (fun c2 => ?_) (fun c2 => ?_)
    · refine p_iinc (v := (x2 + 1)) (lv' := [(2, .int (x2 + 1)), (0, .ref T), (1, .int x1), (3, .int x3)]) 81 131 2 rfl rfl rfl (congrArg (fun z => x2 + z) ci_1) (Nat.le_of_ble_eq_true rfl) rfl ?_
      refine p_goto 82 26 rfl rfl ?_
      exact p_sub [1, 2, 0] rfl (k2 c1 c2)
    · refine p_aload_n 61 96 0 rfl rfl rfl ?_
      refine t_geti (v := .ref (T + 16)) fl_X2_56 62 99 rfl rfl rfl ?_
      refine p_bipush 63 101 rfl rfl cb_20 ?_
      refine p_iload_n 64 102 2 rfl rfl rfl ?_
      refine p_imul 65 103 rfl rfl ?_
      refine p_iload_n 66 104 3 rfl rfl rfl ?_
      refine p_iadd 67 105 rfl rfl ?_
      refine p_aload_n 68 106 0 rfl rfl rfl ?_
      refine t_geti (v := .ref (T + 10)) fl_X2_38 69 109 rfl rfl rfl ?_
      refine p_aload_n 70 110 0 rfl rfl rfl ?_
      refine t_geti (v := .ref (T + 18)) fl_X2_62 71 113 rfl rfl rfl ?_
      refine p_aload_n 72 114 0 rfl rfl rfl ?_
      refine p_iload_n 73 115 2 rfl rfl rfl ?_
      refine p_iload_n 74 116 3 rfl rfl rfl ?_
      exact t_cVi lk_X2_174 75 119 rfl rfl (by decide) [.int x2, .int x3] rfl rfl (Nat.le_of_ble_eq_true rfl) (Nat.le_of_ble_eq_true rfl) (e3 c1 c2) (fun x σ1 h => k3 c1 c2 x σ1 h)
theorem b_join_119 {G : Gm} {T : Nat} {w : Wd} {σ : TW} {Q : Option Value → TW → Prop} {x1 : Int32} {x2 : Int32} {x3 : Int32} {s0 : Int32} {s3 : Int32} (b1 : vp_in s0 40) (b2 : vp_in (σ.2.1 22 (s0 : Int32).toNatClampNeg) 120) (b3 : vp_in s3 19200) (k1 : Tn G T w mX2_join 75 [(0, .ref T), (1, .int x1), (2, .int x2), (3, .int (x3 + 1))] [] (tsA σ 17 (s3 : Int32).toNatClampNeg (σ.2.1 11 ((σ.2.1 22 (s0 : Int32).toNatClampNeg) : Int32).toNatClampNeg)) Q) : Tn G T w mX2_join 119 [(0, .ref T), (1, .int x1), (2, .int x2), (3, .int x3)] [.int s0, .ref (T + 18), .ref (T + 10), .int s3, .ref (T + 16)] σ Q := by
  refine t_iald (d := 18) (f := 22) (v := (σ.2.1 22 (s0 : Int32).toNatClampNeg)) 76 120 rfl rfl td_18 rfl tf_22 b1 rfl ?_
  refine t_iald (d := 10) (f := 11) (v := (σ.2.1 11 ((σ.2.1 22 (s0 : Int32).toNatClampNeg) : Int32).toNatClampNeg)) 77 121 rfl rfl td_10 rfl tf_11 b2 rfl ?_
  refine t_iast (d := 16) (f := 17) 78 122 rfl rfl td_16 rfl tf_17 b3 ?_
  refine p_iinc (v := (x3 + 1)) (lv' := [(3, .int (x3 + 1)), (0, .ref T), (1, .int x1), (2, .int x2)]) 79 125 3 rfl rfl rfl (congrArg (fun z => x3 + z) ci_1) (Nat.le_of_ble_eq_true rfl) rfl ?_
  refine p_goto 80 75 rfl rfl ?_
  exact p_sub [1, 2, 3, 0] rfl (k1 )
theorem b_join_146 {G : Gm} {T : Nat} {w : Wd} {σ : TW} {Q : Option Value → TW → Prop} {x1 : Int32} {x2 : Int32} {x3 : Int32} (b1 : vp_in 0 3) (k1 : (σ.2.1 10 (0 : Int32).toNatClampNeg) ≤ x3 → Q (some (.int x1)) (tsA σ 10 (0 : Int32).toNatClampNeg x2)) (b2 : ¬ (σ.2.1 10 (0 : Int32).toNatClampNeg) ≤ x3 → vp_in x3 40) {Q2 : TW → Prop} (e2 : ¬ (σ.2.1 10 (0 : Int32).toNatClampNeg) ≤ x3 → (σ.2.1 22 (x3 : Int32).toNatClampNeg) = x3 → Tvv G T w mX2_copy (.ref T :: [.int x2, .int x3]) σ Q2) (k2 : ¬ (σ.2.1 10 (0 : Int32).toNatClampNeg) ≤ x3 → (σ.2.1 22 (x3 : Int32).toNatClampNeg) = x3 → ∀ σ2, Q2 σ2 → Tn G T w mX2_join 178 [(0, .ref T), (1, .int x1), (2, .int x2), (3, .int x3)] [] σ2 Q) (k3 : ¬ (σ.2.1 10 (0 : Int32).toNatClampNeg) ≤ x3 → ¬ (σ.2.1 22 (x3 : Int32).toNatClampNeg) = x3 → Tn G T w mX2_join 146 [(0, .ref T), (1, .int (x1 + 1)), (2, .int x2), (3, .int (x3 + 1))] [] σ Q) : Tn G T w mX2_join 146 [(0, .ref T), (1, .int x1), (2, .int x2), (3, .int x3)] [] σ Q := by
  refine p_iload_n 91 147 3 rfl rfl rfl ?_
  refine p_aload_n 92 148 0 rfl rfl rfl ?_
  refine t_geti (v := .ref (T + 9)) fl_X2_35 93 151 rfl rfl rfl ?_
  refine p_iconst 94 152 rfl rfl ci_0 ?_
  refine t_iald (d := 9) (f := 10) (v := (σ.2.1 10 (0 : Int32).toNatClampNeg)) 95 153 rfl rfl td_9 rfl tf_10 b1 rfl ?_
  refine p_icmp_ge 96 156 187 rfl rfl rfl (fun c1 => ?_) (fun c1 => ?_)
  · refine p_aload_n 112 188 0 rfl rfl rfl ?_
    refine t_geti (v := .ref (T + 9)) fl_X2_35 113 191 rfl rfl rfl ?_
    refine p_iconst 114 192 rfl rfl ci_0 ?_
    refine p_iload_n 115 193 2 rfl rfl rfl ?_
    refine t_iast (d := 9) (f := 10) 116 194 rfl rfl td_9 rfl tf_10 b1 ?_
    refine p_iload_n 117 195 1 rfl rfl rfl ?_
    exact t_iret 118 rfl rfl rfl (k1 c1)
  · refine p_aload_n 97 157 0 rfl rfl rfl ?_
    refine t_geti (v := .ref (T + 18)) fl_X2_62 98 160 rfl rfl rfl ?_
    refine p_iload_n 99 161 3 rfl rfl rfl ?_
    refine t_iald (d := 18) (f := 22) (v := (σ.2.1 22 (x3 : Int32).toNatClampNeg)) 100 162 rfl rfl td_18 rfl tf_22 (b2 c1) rfl ?_
    refine p_iload_n 101 163 3 rfl rfl rfl ?_
    refine p_icmp_eq 102 166 172 rfl rfl rfl (fun c2 => ?_) (fun c2 => ?_)
    · refine p_aload_n 105 173 0 rfl rfl rfl ?_
      refine p_iload_n 106 174 2 rfl rfl rfl ?_
      refine p_iload_n 107 175 3 rfl rfl rfl ?_
      exact t_cVv lk_X2_155 108 178 rfl rfl (by decide) [.int x2, .int x3] rfl rfl (Nat.le_of_ble_eq_true rfl) (Nat.le_of_ble_eq_true rfl) (e2 c1 c2) (fun σ1 h => k2 c1 c2 σ1 h)
    · refine p_iinc (v := (x1 + 1)) (lv' := [(1, .int (x1 + 1)), (0, .ref T), (2, .int x2), (3, .int x3)]) 103 169 1 rfl rfl rfl (congrArg (fun z => x1 + z) ci_1) (Nat.le_of_ble_eq_true rfl) rfl ?_
      refine p_goto 104 181 rfl rfl ?_
      refine p_iinc (v := (x3 + 1)) (lv' := [(3, .int (x3 + 1)), (1, .int (x1 + 1)), (0, .ref T), (2, .int x2)]) 110 184 3 rfl rfl rfl (congrArg (fun z => x3 + z) ci_1) (Nat.le_of_ble_eq_true rfl) rfl ?_
      refine p_goto 111 146 rfl rfl ?_
      exact p_sub [2, 1, 3, 0] rfl (k3 c1 c2)
theorem b_join_178 {G : Gm} {T : Nat} {w : Wd} {σ : TW} {Q : Option Value → TW → Prop} {x1 : Int32} {x2 : Int32} {x3 : Int32} (k1 : Tn G T w mX2_join 146 [(0, .ref T), (1, .int x1), (2, .int (x2 + 1)), (3, .int (x3 + 1))] [] σ Q) : Tn G T w mX2_join 178 [(0, .ref T), (1, .int x1), (2, .int x2), (3, .int x3)] [] σ Q := by
  refine p_iinc (v := (x2 + 1)) (lv' := [(2, .int (x2 + 1)), (0, .ref T), (1, .int x1), (3, .int x3)]) 109 181 2 rfl rfl rfl (congrArg (fun z => x2 + z) ci_1) (Nat.le_of_ble_eq_true rfl) rfl ?_
  refine p_iinc (v := (x3 + 1)) (lv' := [(3, .int (x3 + 1)), (2, .int (x2 + 1)), (0, .ref T), (1, .int x1)]) 110 184 3 rfl rfl rfl (congrArg (fun z => x3 + z) ci_1) (Nat.le_of_ble_eq_true rfl) rfl ?_
  refine p_goto 111 146 rfl rfl ?_
  exact p_sub [2, 3, 1, 0] rfl (k1 )
theorem b_differs_0 {G : Gm} {T : Nat} {w : Wd} {σ : TW} {Q : Option Value → TW → Prop} {x1 : Int32} {x2 : Int32} {Q1 : Int32 → TW → Prop} (e1 : x1 < 0 → Tvi G T w mX2_fails (.ref T :: [.int 1, .int 1]) (tsI σ 0 0) Q1) (k1 : x1 < 0 → ∀ (y1 : Int32) σ1, Q1 y1 σ1 → Tn G T w mX2_differs 28 [(0, .ref T), (1, .int x1), (2, .int x2)] [.int y1] σ1 Q) {Q2 : Int32 → TW → Prop} (e2 : ¬ x1 < 0 → x2 < 0 → Tvi G T w mX2_fails (.ref T :: [.int 1, .int 1]) (tsI σ 0 0) Q2) (k2 : ¬ x1 < 0 → x2 < 0 → ∀ (y2 : Int32) σ2, Q2 y2 σ2 → Tn G T w mX2_differs 28 [(0, .ref T), (1, .int x1), (2, .int x2)] [.int y2] σ2 Q) {Q3 : Int32 → TW → Prop} (e3 : ¬ x1 < 0 → ¬ x2 < 0 → x2 ≤ 1 → Tvi G T w mX2_fails (.ref T :: [.int 0, .int 1]) (tsI σ 0 0) Q3) (k3 : ¬ x1 < 0 → ¬ x2 < 0 → x2 ≤ 1 → ∀ (y3 : Int32) σ3, Q3 y3 σ3 → Tn G T w mX2_differs 28 [(0, .ref T), (1, .int x1), (2, .int x2)] [.int y3] σ3 Q) {Q4 : Int32 → TW → Prop} (e4 : ¬ x1 < 0 → ¬ x2 < 0 → ¬ x2 ≤ 1 → Tvi G T w mX2_fails (.ref T :: [.int 1, .int 1]) (tsI σ 0 0) Q4) (k4 : ¬ x1 < 0 → ¬ x2 < 0 → ¬ x2 ≤ 1 → ∀ (y4 : Int32) σ4, Q4 y4 σ4 → Tn G T w mX2_differs 28 [(0, .ref T), (1, .int x1), (2, .int x2)] [.int y4] σ4 Q) : Tn G T w mX2_differs 0 [(0, .ref T), (1, .int x1), (2, .int x2)] [] σ Q := by
  refine p_aload_n 0 1 0 rfl rfl rfl ?_
  refine p_iconst 1 2 rfl rfl ci_0 ?_
  refine t_puti fl_X2_69 2 5 rfl rfl rfl rfl (by decide) (tws_0 _ _ _) ?_
  refine p_aload_n 3 6 0 rfl rfl rfl ?_
  refine p_iload_n 4 7 1 rfl rfl rfl ?_
  refine p_if_lt 5 10 19 rfl rfl rfl (fun c1 => ?_) (fun c1 => ?_)
  · refine p_iconst 11 20 rfl rfl ci_1 ?_
    refine p_goto 12 24 rfl rfl ?_
    refine p_iconst 14 25 rfl rfl ci_1 ?_
    exact t_cVi lk_X2_75 15 28 rfl rfl (by decide) [.int 1, .int 1] rfl rfl (Nat.le_of_ble_eq_true rfl) (Nat.le_of_ble_eq_true rfl) (e1 c1) (fun x σ1 h => k1 c1 x σ1 h)
  · refine p_iload_n 6 11 2 rfl rfl rfl ?_
    refine p_if_lt 7 14 19 rfl rfl rfl (fun c2 => ?_) (fun c2 => ?_)
    · refine p_iconst 11 20 rfl rfl ci_1 ?_
      refine p_goto 12 24 rfl rfl ?_
      refine p_iconst 14 25 rfl rfl ci_1 ?_
      exact t_cVi lk_X2_75 15 28 rfl rfl (by decide) [.int 1, .int 1] rfl rfl (Nat.le_of_ble_eq_true rfl) (Nat.le_of_ble_eq_true rfl) (e2 c1 c2) (fun x σ1 h => k2 c1 c2 x σ1 h)
    · refine p_iload_n 8 15 2 rfl rfl rfl ?_
      refine p_iconst 9 16 rfl rfl ci_1 ?_
      refine p_icmp_le 10 19 23 rfl rfl rfl (fun c3 => ?_) (fun c3 => ?_)
      · refine p_iconst 13 24 rfl rfl ci_0 ?_
        refine p_iconst 14 25 rfl rfl ci_1 ?_
        exact t_cVi lk_X2_75 15 28 rfl rfl (by decide) [.int 0, .int 1] rfl rfl (Nat.le_of_ble_eq_true rfl) (Nat.le_of_ble_eq_true rfl) (e3 c1 c2 c3) (fun x σ1 h => k3 c1 c2 c3 x σ1 h)
      · refine p_iconst 11 20 rfl rfl ci_1 ?_
        refine p_goto 12 24 rfl rfl ?_
        refine p_iconst 14 25 rfl rfl ci_1 ?_
        exact t_cVi lk_X2_75 15 28 rfl rfl (by decide) [.int 1, .int 1] rfl rfl (Nat.le_of_ble_eq_true rfl) (Nat.le_of_ble_eq_true rfl) (e4 c1 c2 c3) (fun x σ1 h => k4 c1 c2 c3 x σ1 h)
theorem b_differs_28 {G : Gm} {T : Nat} {w : Wd} {σ : TW} {Q : Option Value → TW → Prop} {x1 : Int32} {x2 : Int32} {s0 : Int32} (k1 : s0 = 0 → Tn G T w mX2_differs 38 [(0, .ref T), (2, .int x2), (3, .int x1), (4, .int 1)] [] σ Q) (k2 : ¬ s0 = 0 → Q (some (.int 0)) σ) : Tn G T w mX2_differs 28 [(0, .ref T), (1, .int x1), (2, .int x2)] [.int s0] σ Q := by
  refine p_if_eq 16 31 33 rfl rfl rfl (fun c1 => ?_) (fun c1 => ?_)
  · refine p_iload_n 19 34 1 rfl rfl rfl ?_
    refine p_istore_n (lv' := [(3, .int x1), (0, .ref T), (1, .int x1), (2, .int x2)]) 20 35 rfl rfl (Nat.le_of_ble_eq_true rfl) rfl ?_
    refine p_iconst 21 36 rfl rfl ci_1 ?_
    refine p_istore (lv' := [(4, .int 1), (3, .int x1), (0, .ref T), (1, .int x1), (2, .int x2)]) 22 38 rfl rfl (Nat.le_of_ble_eq_true rfl) rfl ?_
    exact p_sub [2, 4, 1, 0] rfl (k1 c1)
  · refine p_iconst 17 32 rfl rfl ci_0 ?_
    exact t_iret 18 rfl rfl rfl (k2 c1)
theorem b_differs_38 {G : Gm} {T : Nat} {w : Wd} {σ : TW} {Q : Option Value → TW → Prop} {x2 : Int32} {x3 : Int32} {x4 : Int32} (k1 : (1000 : Int32) ≤ x4 → Q (some (.int (-1))) σ) {Q2 : Int32 → TW → Prop} (e2 : ¬ (1000 : Int32) ≤ x4 → Tvi G T w mX2_find (.ref T :: [.int 0, .int x4]) σ Q2) (k2 : ¬ (1000 : Int32) ≤ x4 → ∀ (y2 : Int32) σ2, Q2 y2 σ2 → Tn G T w mX2_differs 53 [(0, .ref T), (2, .int x2), (3, .int x3), (4, .int x4)] [.int y2] σ2 Q) : Tn G T w mX2_differs 38 [(0, .ref T), (2, .int x2), (3, .int x3), (4, .int x4)] [] σ Q := by
  refine p_iload 23 40 3 rfl rfl rfl ?_
  refine p_sipush 24 43 rfl rfl cs_1000 ?_
  refine p_icmp_ge 25 46 151 rfl rfl rfl (fun c1 => ?_) (fun c1 => ?_)
  · refine p_iconst 77 152 rfl rfl ci_m1 ?_
    exact t_iret 78 rfl rfl rfl (k1 c1)
  · refine p_aload_n 26 47 0 rfl rfl rfl ?_
    refine p_iconst 27 48 rfl rfl ci_0 ?_
    refine p_iload 28 50 3 rfl rfl rfl ?_
    exact t_cVi lk_X2_143 29 53 rfl rfl (by decide) [.int 0, .int x4] rfl rfl (Nat.le_of_ble_eq_true rfl) (Nat.le_of_ble_eq_true rfl) (e2 c1) (fun x σ1 h => k2 c1 x σ1 h)
theorem b_differs_53 {G : Gm} {T : Nat} {w : Wd} {σ : TW} {Q : Option Value → TW → Prop} {x2 : Int32} {x3 : Int32} {x4 : Int32} {s0 : Int32} {Q1 : Int32 → TW → Prop} (e1 : Tvi G T w mX2_find (.ref T :: [.int 2, .int x4]) σ Q1) (k1 : ∀ (y1 : Int32) σ1, Q1 y1 σ1 → Tn G T w mX2_differs 62 [(0, .ref T), (2, .int x2), (3, .int x3), (4, .int x4), (5, .int s0)] [.int y1] σ1 Q) : Tn G T w mX2_differs 53 [(0, .ref T), (2, .int x2), (3, .int x3), (4, .int x4)] [.int s0] σ Q := by
  refine p_istore (lv' := [(5, .int s0), (0, .ref T), (2, .int x2), (3, .int x3), (4, .int x4)]) 30 55 rfl rfl (Nat.le_of_ble_eq_true rfl) rfl ?_
  refine p_aload_n 31 56 1 rfl rfl rfl ?_
  refine p_iconst 32 57 rfl rfl ci_2 ?_
  refine p_iload 33 59 4 rfl rfl rfl ?_
  exact t_cVi lk_X2_143 34 62 rfl rfl (by decide) [.int 2, .int x4] rfl rfl (Nat.le_of_ble_eq_true rfl) (Nat.le_of_ble_eq_true rfl) (e1 ) (fun x σ1 h => p_sub [1, 2, 3, 4, 0] rfl (k1 x σ1 h))
theorem b_differs_62 {G : Gm} {T : Nat} {w : Wd} {σ : TW} {Q : Option Value → TW → Prop} {x2 : Int32} {x3 : Int32} {x4 : Int32} {x5 : Int32} {s0 : Int32} (k1 : ¬ x5 = (-1) → Tn G T w mX2_differs 80 [(0, .ref T), (2, .int x2), (3, .int x3), (4, .int x4), (5, .int x5), (6, .int s0)] [] σ Q) (k2 : x5 = (-1) → ¬ s0 = (-1) → Tn G T w mX2_differs 80 [(0, .ref T), (2, .int x2), (3, .int x3), (4, .int x4), (5, .int x5), (6, .int s0)] [] σ Q) (k3 : x5 = (-1) → s0 = (-1) → Tn G T w mX2_differs 38 [(0, .ref T), (2, .int x2), (3, .int x3), (4, .int (x4 + 1))] [] σ Q) : Tn G T w mX2_differs 62 [(0, .ref T), (2, .int x2), (3, .int x3), (4, .int x4), (5, .int x5)] [.int s0] σ Q := by
  refine p_istore (lv' := [(6, .int s0), (0, .ref T), (2, .int x2), (3, .int x3), (4, .int x4), (5, .int x5)]) 35 64 rfl rfl (Nat.le_of_ble_eq_true rfl) rfl ?_
  refine p_iload 36 66 5 rfl rfl rfl ?_
  refine p_iconst 37 67 rfl rfl ci_m1 ?_
  refine p_icmp_ne 38 70 80 rfl rfl rfl (fun c1 => ?_) (fun c1 => ?_)
  · exact p_sub [1, 2, 3, 4, 5, 0] rfl (k1 c1)
  · refine p_iload 39 72 0 rfl rfl rfl ?_
    refine p_iconst 40 73 rfl rfl ci_m1 ?_
    refine p_icmp_ne 41 76 80 rfl rfl rfl (fun c2 => ?_) (fun c2 => ?_)
    · exact p_sub [1, 2, 3, 4, 5, 0] rfl (k2 c1 c2)
    · refine p_iconst 42 77 rfl rfl ci_0 ?_
      refine p_goto 43 116 rfl rfl ?_
      refine p_istore (lv' := [(7, .int 0), (6, .int s0), (0, .ref T), (2, .int x2), (3, .int x3), (4, .int x4), (5, .int x5)]) 62 118 rfl rfl (Nat.le_of_ble_eq_true rfl) rfl ?_
      refine p_iload 63 120 0 rfl rfl rfl ?_
      refine p_if_ne 64 123 126 rfl rfl rfl (fun c => absurd c (by decide)) (fun _ => ?_)
      refine p_goto 65 145 rfl rfl ?_
      refine p_iinc (v := (x4 + 1)) (lv' := [(4, .int (x4 + 1)), (7, .int 0), (6, .int s0), (0, .ref T), (2, .int x2), (3, .int x3), (5, .int x5)]) 75 148 5 rfl rfl rfl (congrArg (fun z => x4 + z) ci_1) (Nat.le_of_ble_eq_true rfl) rfl ?_
      refine p_goto 76 38 rfl rfl ?_
      exact p_sub [3, 4, 5, 0] rfl (k3 c1 c2)
theorem b_differs_80 {G : Gm} {T : Nat} {w : Wd} {σ : TW} {Q : Option Value → TW → Prop} {x2 : Int32} {x3 : Int32} {x4 : Int32} {x5 : Int32} {x6 : Int32} {Q1 : Int32 → TW → Prop} (e1 : ¬ x5 = (-1) → ¬ x6 = (-1) → Tvi G T w mX2_isLineSame (.ref T :: [.int x5, .int x6]) σ Q1) (k1 : ¬ x5 = (-1) → ¬ x6 = (-1) → ∀ (y1 : Int32) σ1, Q1 y1 σ1 → Tn G T w mX2_differs 108 [(0, .ref T), (2, .int x2), (3, .int x3), (4, .int x4)] [.int y1] σ1 Q) (k2 : ¬ x5 = (-1) → x6 = (-1) → ¬ x3 = 0 → Tn G T w mX2_differs 38 [(0, .ref T), (2, .int x2), (3, .int (x3 + (-1))), (4, .int (x4 + 1))] [] σ Q) (k3 : ¬ x5 = (-1) → x6 = (-1) → x3 = 0 → ¬ x2 = 0 → Q (some (.int 2)) σ) (k4 : ¬ x5 = (-1) → x6 = (-1) → x3 = 0 → x2 = 0 → Q (some (.int x4)) σ) (k5 : x5 = (-1) → ¬ x3 = 0 → Tn G T w mX2_differs 38 [(0, .ref T), (2, .int x2), (3, .int (x3 + (-1))), (4, .int (x4 + 1))] [] σ Q) (k6 : x5 = (-1) → x3 = 0 → ¬ x2 = 0 → Q (some (.int 1)) σ) (k7 : x5 = (-1) → x3 = 0 → x2 = 0 → Q (some (.int x4)) σ) : Tn G T w mX2_differs 80 [(0, .ref T), (2, .int x2), (3, .int x3), (4, .int x4), (5, .int x5), (6, .int x6)] [] σ Q := by
  refine p_iload 44 82 4 rfl rfl rfl ?_
  refine p_iconst 45 83 rfl rfl ci_m1 ?_
  refine p_icmp_ne 46 86 90 rfl rfl rfl (fun c1 => ?_) (fun c1 => ?_)
  · refine p_iload 49 92 5 rfl rfl rfl ?_
    refine p_iconst 50 93 rfl rfl ci_m1 ?_
    refine p_icmp_ne 51 96 100 rfl rfl rfl (fun c2 => ?_) (fun c2 => ?_)
    · refine p_aload_n 54 101 0 rfl rfl rfl ?_
      refine p_iload 55 103 4 rfl rfl rfl ?_
      refine p_iload 56 105 5 rfl rfl rfl ?_
      exact t_cVi lk_X2_215 57 108 rfl rfl (by decide) [.int x5, .int x6] rfl rfl (Nat.le_of_ble_eq_true rfl) (Nat.le_of_ble_eq_true rfl) (e1 c1 c2) (fun x σ1 h => p_sub [0, 1, 2, 3] rfl (k1 c1 c2 x σ1 h))
    · refine p_iconst 52 97 rfl rfl ci_2 ?_
      refine p_goto 53 116 rfl rfl ?_
      refine p_istore (lv' := [(7, .int 2), (0, .ref T), (2, .int x2), (3, .int x3), (4, .int x4), (5, .int x5), (6, .int x6)]) 62 118 rfl rfl (Nat.le_of_ble_eq_true rfl) rfl ?_
      refine p_iload 63 120 0 rfl rfl rfl ?_
      refine p_if_ne 64 123 126 rfl rfl rfl (fun _ => ?_) (fun c => absurd c (by decide))
      refine p_iload_n 66 127 3 rfl rfl rfl ?_
      refine p_if_ne 67 130 142 rfl rfl rfl (fun c3 => ?_) (fun c3 => ?_)
      · refine p_iinc (v := (x3 + (-1))) (lv' := [(3, .int (x3 + (-1))), (7, .int 2), (0, .ref T), (2, .int x2), (4, .int x4), (5, .int x5), (6, .int x6)]) 74 145 3 rfl rfl rfl (congrArg (fun z => x3 + z) ci_m1) (Nat.le_of_ble_eq_true rfl) rfl ?_
        refine p_iinc (v := (x4 + 1)) (lv' := [(4, .int (x4 + 1)), (3, .int (x3 + (-1))), (7, .int 2), (0, .ref T), (2, .int x2), (5, .int x5), (6, .int x6)]) 75 148 4 rfl rfl rfl (congrArg (fun z => x4 + z) ci_1) (Nat.le_of_ble_eq_true rfl) rfl ?_
        refine p_goto 76 38 rfl rfl ?_
        exact p_sub [3, 4, 1, 0] rfl (k2 c1 c2 c3)
      · refine p_iload_n 68 131 2 rfl rfl rfl ?_
        refine p_if_ne 69 134 139 rfl rfl rfl (fun c4 => ?_) (fun c4 => ?_)
        · refine p_iload 72 141 0 rfl rfl rfl ?_
          exact t_iret 73 rfl rfl rfl (k3 c1 c2 c3 c4)
        · refine p_iload 70 136 4 rfl rfl rfl ?_
          refine p_goto 71 141 rfl rfl ?_
          exact t_iret 73 rfl rfl rfl (k4 c1 c2 c3 c4)
  · refine p_iconst 47 87 rfl rfl ci_1 ?_
    refine p_goto 48 116 rfl rfl ?_
    refine p_istore (lv' := [(7, .int 1), (0, .ref T), (2, .int x2), (3, .int x3), (4, .int x4), (5, .int x5), (6, .int x6)]) 62 118 rfl rfl (Nat.le_of_ble_eq_true rfl) rfl ?_
    refine p_iload 63 120 0 rfl rfl rfl ?_
    refine p_if_ne 64 123 126 rfl rfl rfl (fun _ => ?_) (fun c => absurd c (by decide))
    refine p_iload_n 66 127 3 rfl rfl rfl ?_
    refine p_if_ne 67 130 142 rfl rfl rfl (fun c2 => ?_) (fun c2 => ?_)
    · refine p_iinc (v := (x3 + (-1))) (lv' := [(3, .int (x3 + (-1))), (7, .int 1), (0, .ref T), (2, .int x2), (4, .int x4), (5, .int x5), (6, .int x6)]) 74 145 3 rfl rfl rfl (congrArg (fun z => x3 + z) ci_m1) (Nat.le_of_ble_eq_true rfl) rfl ?_
      refine p_iinc (v := (x4 + 1)) (lv' := [(4, .int (x4 + 1)), (3, .int (x3 + (-1))), (7, .int 1), (0, .ref T), (2, .int x2), (5, .int x5), (6, .int x6)]) 75 148 4 rfl rfl rfl (congrArg (fun z => x4 + z) ci_1) (Nat.le_of_ble_eq_true rfl) rfl ?_
      refine p_goto 76 38 rfl rfl ?_
      exact p_sub [3, 4, 1, 0] rfl (k5 c1 c2)
    · refine p_iload_n 68 131 2 rfl rfl rfl ?_
      refine p_if_ne 69 134 139 rfl rfl rfl (fun c3 => ?_) (fun c3 => ?_)
      · refine p_iload 72 141 0 rfl rfl rfl ?_
        exact t_iret 73 rfl rfl rfl (k6 c1 c2 c3)
      · refine p_iload 70 136 4 rfl rfl rfl ?_
        refine p_goto 71 141 rfl rfl ?_
        exact t_iret 73 rfl rfl rfl (k7 c1 c2 c3)
theorem b_differs_108 {G : Gm} {T : Nat} {w : Wd} {σ : TW} {Q : Option Value → TW → Prop} {x2 : Int32} {x3 : Int32} {x4 : Int32} {s0 : Int32} (k1 : s0 = 0 → ¬ x3 = 0 → Tn G T w mX2_differs 38 [(0, .ref T), (2, .int x2), (3, .int (x3 + (-1))), (4, .int (x4 + 1))] [] σ Q) (k2 : s0 = 0 → x3 = 0 → ¬ x2 = 0 → Q (some (.int 3)) σ) (k3 : s0 = 0 → x3 = 0 → x2 = 0 → Q (some (.int x4)) σ) (k4 : ¬ s0 = 0 → Tn G T w mX2_differs 38 [(0, .ref T), (2, .int x2), (3, .int x3), (4, .int (x4 + 1))] [] σ Q) : Tn G T w mX2_differs 108 [(0, .ref T), (2, .int x2), (3, .int x3), (4, .int x4)] [.int s0] σ Q := by
  refine p_if_eq 58 111 115 rfl rfl rfl (fun c1 => ?_) (fun c1 => ?_)
  · refine p_iconst 61 116 rfl rfl ci_3 ?_
    refine p_istore (lv' := [(7, .int 3), (0, .ref T), (2, .int x2), (3, .int x3), (4, .int x4)]) 62 118 rfl rfl (Nat.le_of_ble_eq_true rfl) rfl ?_
    refine p_iload 63 120 0 rfl rfl rfl ?_
    refine p_if_ne 64 123 126 rfl rfl rfl (fun _ => ?_) (fun c => absurd c (by decide))
    refine p_iload_n 66 127 3 rfl rfl rfl ?_
    refine p_if_ne 67 130 142 rfl rfl rfl (fun c2 => ?_) (fun c2 => ?_)
    · refine p_iinc (v := (x3 + (-1))) (lv' := [(3, .int (x3 + (-1))), (7, .int 3), (0, .ref T), (2, .int x2), (4, .int x4)]) 74 145 3 rfl rfl rfl (congrArg (fun z => x3 + z) ci_m1) (Nat.le_of_ble_eq_true rfl) rfl ?_
      refine p_iinc (v := (x4 + 1)) (lv' := [(4, .int (x4 + 1)), (3, .int (x3 + (-1))), (7, .int 3), (0, .ref T), (2, .int x2)]) 75 148 4 rfl rfl rfl (congrArg (fun z => x4 + z) ci_1) (Nat.le_of_ble_eq_true rfl) rfl ?_
      refine p_goto 76 38 rfl rfl ?_
      exact p_sub [3, 4, 1, 0] rfl (k1 c1 c2)
    · refine p_iload_n 68 131 2 rfl rfl rfl ?_
      refine p_if_ne 69 134 139 rfl rfl rfl (fun c3 => ?_) (fun c3 => ?_)
      · refine p_iload 72 141 0 rfl rfl rfl ?_
        exact t_iret 73 rfl rfl rfl (k2 c1 c2 c3)
      · refine p_iload 70 136 4 rfl rfl rfl ?_
        refine p_goto 71 141 rfl rfl ?_
        exact t_iret 73 rfl rfl rfl (k3 c1 c2 c3)
  · refine p_iconst 59 112 rfl rfl ci_0 ?_
    refine p_goto 60 116 rfl rfl ?_
    refine p_istore (lv' := [(7, .int 0), (0, .ref T), (2, .int x2), (3, .int x3), (4, .int x4)]) 62 118 rfl rfl (Nat.le_of_ble_eq_true rfl) rfl ?_
    refine p_iload 63 120 0 rfl rfl rfl ?_
    refine p_if_ne 64 123 126 rfl rfl rfl (fun c => absurd c (by decide)) (fun _ => ?_)
    refine p_goto 65 145 rfl rfl ?_
    refine p_iinc (v := (x4 + 1)) (lv' := [(4, .int (x4 + 1)), (7, .int 0), (0, .ref T), (2, .int x2), (3, .int x3)]) 75 148 4 rfl rfl rfl (congrArg (fun z => x4 + z) ci_1) (Nat.le_of_ble_eq_true rfl) rfl ?_
    refine p_goto 76 38 rfl rfl ?_
    exact p_sub [2, 3, 4, 0] rfl (k4 c1)
theorem b_isLineSame_0 {G : Gm} {T : Nat} {w : Wd} {σ : TW} {Q : Option Value → TW → Prop} {x1 : Int32} {x2 : Int32} (b1 : vp_in x1 120) (b2 : vp_in x2 120) (k1 : ¬ (σ.2.1 12 (x1 : Int32).toNatClampNeg) = (σ.2.1 12 (x2 : Int32).toNatClampNeg) → Tn G T w mX2_isLineSame 67 [(0, .ref T), (1, .int x1), (2, .int x2), (3, .int 0), (4, .int 0)] [] σ Q) (k2 : (σ.2.1 12 (x1 : Int32).toNatClampNeg) = (σ.2.1 12 (x2 : Int32).toNatClampNeg) → ¬ (σ.2.1 14 (x1 : Int32).toNatClampNeg) = (σ.2.1 14 (x2 : Int32).toNatClampNeg) → Tn G T w mX2_isLineSame 67 [(0, .ref T), (1, .int x1), (2, .int x2), (3, .int 0), (4, .int 0)] [] σ Q) {Q3 : Int32 → TW → Prop} (e3 : (σ.2.1 12 (x1 : Int32).toNatClampNeg) = (σ.2.1 12 (x2 : Int32).toNatClampNeg) → (σ.2.1 14 (x1 : Int32).toNatClampNeg) = (σ.2.1 14 (x2 : Int32).toNatClampNeg) → Tvi G T w mX2_isSame [.ref (T + 12), .int (8 * x1), .ref (T + 12), .int (8 * x2), .int (σ.2.1 12 (x1 : Int32).toNatClampNeg)] σ Q3) (k3 : (σ.2.1 12 (x1 : Int32).toNatClampNeg) = (σ.2.1 12 (x2 : Int32).toNatClampNeg) → (σ.2.1 14 (x1 : Int32).toNatClampNeg) = (σ.2.1 14 (x2 : Int32).toNatClampNeg) → ∀ (y3 : Int32) σ3, Q3 y3 σ3 → Tn G T w mX2_isLineSame 55 [(0, .ref T), (1, .int x1), (2, .int x2)] [.int y3] σ3 Q) : Tn G T w mX2_isLineSame 0 [(0, .ref T), (1, .int x1), (2, .int x2)] [] σ Q := by
  refine p_aload_n 0 1 0 rfl rfl rfl ?_
  refine t_geti (v := .ref (T + 11)) fl_X2_41 1 4 rfl rfl rfl ?_
  refine p_iload_n 2 5 1 rfl rfl rfl ?_
  refine t_iald (d := 11) (f := 12) (v := (σ.2.1 12 (x1 : Int32).toNatClampNeg)) 3 6 rfl rfl td_11 rfl tf_12 b1 rfl ?_
  refine p_aload_n 4 7 0 rfl rfl rfl ?_
  refine t_geti (v := .ref (T + 11)) fl_X2_41 5 10 rfl rfl rfl ?_
  refine p_iload_n 6 11 2 rfl rfl rfl ?_
  refine t_iald (d := 11) (f := 12) (v := (σ.2.1 12 (x2 : Int32).toNatClampNeg)) 7 12 rfl rfl td_11 rfl tf_12 b2 rfl ?_
  refine p_icmp_ne 8 15 62 rfl rfl rfl (fun c1 => ?_) (fun c1 => ?_)
  · refine p_iconst 36 63 rfl rfl ci_0 ?_
    refine p_istore_n (lv' := [(3, .int 0), (0, .ref T), (1, .int x1), (2, .int x2)]) 37 64 rfl rfl (Nat.le_of_ble_eq_true rfl) rfl ?_
    refine p_iconst 38 65 rfl rfl ci_0 ?_
    refine p_istore (lv' := [(4, .int 0), (3, .int 0), (0, .ref T), (1, .int x1), (2, .int x2)]) 39 67 rfl rfl (Nat.le_of_ble_eq_true rfl) rfl ?_
    exact p_sub [2, 3, 4, 1, 0] rfl (k1 c1)
  · refine p_aload_n 9 16 0 rfl rfl rfl ?_
    refine t_geti (v := .ref (T + 13)) fl_X2_47 10 19 rfl rfl rfl ?_
    refine p_iload_n 11 20 1 rfl rfl rfl ?_
    refine t_iald (d := 13) (f := 14) (v := (σ.2.1 14 (x1 : Int32).toNatClampNeg)) 12 21 rfl rfl td_13 rfl tf_14 b1 rfl ?_
    refine p_aload_n 13 22 0 rfl rfl rfl ?_
    refine t_geti (v := .ref (T + 13)) fl_X2_47 14 25 rfl rfl rfl ?_
    refine p_iload_n 15 26 2 rfl rfl rfl ?_
    refine t_iald (d := 13) (f := 14) (v := (σ.2.1 14 (x2 : Int32).toNatClampNeg)) 16 27 rfl rfl td_13 rfl tf_14 b2 rfl ?_
    refine p_icmp_ne 17 30 62 rfl rfl rfl (fun c2 => ?_) (fun c2 => ?_)
    · refine p_iconst 36 63 rfl rfl ci_0 ?_
      refine p_istore_n (lv' := [(3, .int 0), (0, .ref T), (1, .int x1), (2, .int x2)]) 37 64 rfl rfl (Nat.le_of_ble_eq_true rfl) rfl ?_
      refine p_iconst 38 65 rfl rfl ci_0 ?_
      refine p_istore (lv' := [(4, .int 0), (3, .int 0), (0, .ref T), (1, .int x1), (2, .int x2)]) 39 67 rfl rfl (Nat.le_of_ble_eq_true rfl) rfl ?_
      exact p_sub [2, 3, 4, 1, 0] rfl (k2 c1 c2)
    · refine p_aload_n 18 31 0 rfl rfl rfl ?_
      refine t_geti (v := .ref (T + 12)) fl_X2_44 19 34 rfl rfl rfl ?_
      refine p_bipush 20 36 rfl rfl cb_8 ?_
      refine p_iload_n 21 37 1 rfl rfl rfl ?_
      refine p_imul 22 38 rfl rfl ?_
      refine p_aload_n 23 39 0 rfl rfl rfl ?_
      refine t_geti (v := .ref (T + 12)) fl_X2_44 24 42 rfl rfl rfl ?_
      refine p_bipush 25 44 rfl rfl cb_8 ?_
      refine p_iload_n 26 45 2 rfl rfl rfl ?_
      refine p_imul 27 46 rfl rfl ?_
      refine p_aload_n 28 47 0 rfl rfl rfl ?_
      refine t_geti (v := .ref (T + 11)) fl_X2_41 29 50 rfl rfl rfl ?_
      refine p_iload_n 30 51 1 rfl rfl rfl ?_
      refine t_iald (d := 11) (f := 12) (v := (σ.2.1 12 (x1 : Int32).toNatClampNeg)) 31 52 rfl rfl td_11 rfl tf_12 b1 rfl ?_
      exact t_cTi lk_X2_117 32 55 rfl rfl (by decide) [.ref (T + 12), .int (8 * x1), .ref (T + 12), .int (8 * x2), .int (σ.2.1 12 (x1 : Int32).toNatClampNeg)] rfl rfl (Nat.le_of_ble_eq_true rfl) (Nat.le_of_ble_eq_true rfl) (e3 c1 c2) (fun x σ1 h => k3 c1 c2 x σ1 h)
theorem b_isLineSame_55 {G : Gm} {T : Nat} {w : Wd} {σ : TW} {Q : Option Value → TW → Prop} {x1 : Int32} {x2 : Int32} {s0 : Int32} (k1 : s0 = 0 → Tn G T w mX2_isLineSame 67 [(0, .ref T), (1, .int x1), (2, .int x2), (3, .int 0), (4, .int 0)] [] σ Q) (k2 : ¬ s0 = 0 → Tn G T w mX2_isLineSame 67 [(0, .ref T), (1, .int x1), (2, .int x2), (3, .int 1), (4, .int 0)] [] σ Q) : Tn G T w mX2_isLineSame 55 [(0, .ref T), (1, .int x1), (2, .int x2)] [.int s0] σ Q := by
  refine p_if_eq 33 58 62 rfl rfl rfl (fun c1 => ?_) (fun c1 => ?_)
  · refine p_iconst 36 63 rfl rfl ci_0 ?_
    refine p_istore_n (lv' := [(3, .int 0), (0, .ref T), (1, .int x1), (2, .int x2)]) 37 64 rfl rfl (Nat.le_of_ble_eq_true rfl) rfl ?_
    refine p_iconst 38 65 rfl rfl ci_0 ?_
    refine p_istore (lv' := [(4, .int 0), (3, .int 0), (0, .ref T), (1, .int x1), (2, .int x2)]) 39 67 rfl rfl (Nat.le_of_ble_eq_true rfl) rfl ?_
    exact p_sub [2, 3, 4, 1, 0] rfl (k1 c1)
  · refine p_iconst 34 59 rfl rfl ci_1 ?_
    refine p_goto 35 63 rfl rfl ?_
    refine p_istore_n (lv' := [(3, .int 1), (0, .ref T), (1, .int x1), (2, .int x2)]) 37 64 rfl rfl (Nat.le_of_ble_eq_true rfl) rfl ?_
    refine p_iconst 38 65 rfl rfl ci_0 ?_
    refine p_istore (lv' := [(4, .int 0), (3, .int 1), (0, .ref T), (1, .int x1), (2, .int x2)]) 39 67 rfl rfl (Nat.le_of_ble_eq_true rfl) rfl ?_
    exact p_sub [2, 3, 4, 1, 0] rfl (k2 c1)
theorem b_isLineSame_67 {G : Gm} {T : Nat} {w : Wd} {σ : TW} {Q : Option Value → TW → Prop} {x1 : Int32} {x2 : Int32} {x3 : Int32} {x4 : Int32} (b1 : vp_in x1 120) (b2 : (σ.2.1 14 (x1 : Int32).toNatClampNeg) ≤ x4 → narrow .boolean (.int x3) = .int x3) (k1 : (σ.2.1 14 (x1 : Int32).toNatClampNeg) ≤ x4 → Q (some (.int x3)) σ) (b3 : ¬ (σ.2.1 14 (x1 : Int32).toNatClampNeg) ≤ x4 → x3 = 0 → narrow .boolean (.int x3) = .int x3) (k2 : ¬ (σ.2.1 14 (x1 : Int32).toNatClampNeg) ≤ x4 → x3 = 0 → Q (some (.int x3)) σ) (b4 : ¬ (σ.2.1 14 (x1 : Int32).toNatClampNeg) ≤ x4 → ¬ x3 = 0 → vp_in ((8 * x1) + x4) 960) (b5 : ¬ (σ.2.1 14 (x1 : Int32).toNatClampNeg) ≤ x4 → ¬ x3 = 0 → vp_in ((8 * x2) + x4) 960) (k3 : ¬ (σ.2.1 14 (x1 : Int32).toNatClampNeg) ≤ x4 → ¬ x3 = 0 → ¬ (σ.2.1 15 (((8 * x1) + x4) : Int32).toNatClampNeg) = (σ.2.1 15 (((8 * x2) + x4) : Int32).toNatClampNeg) → Tn G T w mX2_isLineSame 138 [(0, .ref T), (1, .int x1), (2, .int x2), (4, .int x4), (5, .int ((8 * x1) + x4)), (6, .int ((8 * x2) + x4))] [] σ Q) (k4 : ¬ (σ.2.1 14 (x1 : Int32).toNatClampNeg) ≤ x4 → ¬ x3 = 0 → (σ.2.1 15 (((8 * x1) + x4) : Int32).toNatClampNeg) = (σ.2.1 15 (((8 * x2) + x4) : Int32).toNatClampNeg) → ¬ (σ.2.1 16 (((8 * x1) + x4) : Int32).toNatClampNeg) = (σ.2.1 16 (((8 * x2) + x4) : Int32).toNatClampNeg) → Tn G T w mX2_isLineSame 138 [(0, .ref T), (1, .int x1), (2, .int x2), (4, .int x4), (5, .int ((8 * x1) + x4)), (6, .int ((8 * x2) + x4))] [] σ Q) {Q5 : Int32 → TW → Prop} (e5 : ¬ (σ.2.1 14 (x1 : Int32).toNatClampNeg) ≤ x4 → ¬ x3 = 0 → (σ.2.1 15 (((8 * x1) + x4) : Int32).toNatClampNeg) = (σ.2.1 15 (((8 * x2) + x4) : Int32).toNatClampNeg) → (σ.2.1 16 (((8 * x1) + x4) : Int32).toNatClampNeg) = (σ.2.1 16 (((8 * x2) + x4) : Int32).toNatClampNeg) → (σ.2.1 15 (((8 * x1) + x4) : Int32).toNatClampNeg) = 1 → Tvi G T w mX2_isSame [.ref (T + 16), .int (20 * ((8 * x1) + x4)), .ref (T + 16), .int (20 * ((8 * x2) + x4)), .int (σ.2.1 16 (((8 * x1) + x4) : Int32).toNatClampNeg)] σ Q5) (k5 : ¬ (σ.2.1 14 (x1 : Int32).toNatClampNeg) ≤ x4 → ¬ x3 = 0 → (σ.2.1 15 (((8 * x1) + x4) : Int32).toNatClampNeg) = (σ.2.1 15 (((8 * x2) + x4) : Int32).toNatClampNeg) → (σ.2.1 16 (((8 * x1) + x4) : Int32).toNatClampNeg) = (σ.2.1 16 (((8 * x2) + x4) : Int32).toNatClampNeg) → (σ.2.1 15 (((8 * x1) + x4) : Int32).toNatClampNeg) = 1 → ∀ (y5 : Int32) σ5, Q5 y5 σ5 → Tn G T w mX2_isLineSame 228 [(0, .ref T), (1, .int x1), (2, .int x2), (4, .int x4)] [.int y5] σ5 Q) {Q6 : Int32 → TW → Prop} (e6 : ¬ (σ.2.1 14 (x1 : Int32).toNatClampNeg) ≤ x4 → ¬ x3 = 0 → (σ.2.1 15 (((8 * x1) + x4) : Int32).toNatClampNeg) = (σ.2.1 15 (((8 * x2) + x4) : Int32).toNatClampNeg) → (σ.2.1 16 (((8 * x1) + x4) : Int32).toNatClampNeg) = (σ.2.1 16 (((8 * x2) + x4) : Int32).toNatClampNeg) → ¬ (σ.2.1 15 (((8 * x1) + x4) : Int32).toNatClampNeg) = 1 → (σ.2.1 15 (((8 * x1) + x4) : Int32).toNatClampNeg) = 5 → Tvi G T w mX2_isSame [.ref (T + 16), .int (20 * ((8 * x1) + x4)), .ref (T + 16), .int (20 * ((8 * x2) + x4)), .int (σ.2.1 16 (((8 * x1) + x4) : Int32).toNatClampNeg)] σ Q6) (k6 : ¬ (σ.2.1 14 (x1 : Int32).toNatClampNeg) ≤ x4 → ¬ x3 = 0 → (σ.2.1 15 (((8 * x1) + x4) : Int32).toNatClampNeg) = (σ.2.1 15 (((8 * x2) + x4) : Int32).toNatClampNeg) → (σ.2.1 16 (((8 * x1) + x4) : Int32).toNatClampNeg) = (σ.2.1 16 (((8 * x2) + x4) : Int32).toNatClampNeg) → ¬ (σ.2.1 15 (((8 * x1) + x4) : Int32).toNatClampNeg) = 1 → (σ.2.1 15 (((8 * x1) + x4) : Int32).toNatClampNeg) = 5 → ∀ (y6 : Int32) σ6, Q6 y6 σ6 → Tn G T w mX2_isLineSame 228 [(0, .ref T), (1, .int x1), (2, .int x2), (4, .int x4)] [.int y6] σ6 Q) {Q7 : Int32 → TW → Prop} (e7 : ¬ (σ.2.1 14 (x1 : Int32).toNatClampNeg) ≤ x4 → ¬ x3 = 0 → (σ.2.1 15 (((8 * x1) + x4) : Int32).toNatClampNeg) = (σ.2.1 15 (((8 * x2) + x4) : Int32).toNatClampNeg) → (σ.2.1 16 (((8 * x1) + x4) : Int32).toNatClampNeg) = (σ.2.1 16 (((8 * x2) + x4) : Int32).toNatClampNeg) → ¬ (σ.2.1 15 (((8 * x1) + x4) : Int32).toNatClampNeg) = 1 → ¬ (σ.2.1 15 (((8 * x1) + x4) : Int32).toNatClampNeg) = 5 → (σ.2.1 15 (((8 * x1) + x4) : Int32).toNatClampNeg) = 3 → Tvi G T w mX2_isSame [.ref (T + 16), .int (20 * ((8 * x1) + x4)), .ref (T + 16), .int (20 * ((8 * x2) + x4)), .int (σ.2.1 16 (((8 * x1) + x4) : Int32).toNatClampNeg)] σ Q7) (k7 : ¬ (σ.2.1 14 (x1 : Int32).toNatClampNeg) ≤ x4 → ¬ x3 = 0 → (σ.2.1 15 (((8 * x1) + x4) : Int32).toNatClampNeg) = (σ.2.1 15 (((8 * x2) + x4) : Int32).toNatClampNeg) → (σ.2.1 16 (((8 * x1) + x4) : Int32).toNatClampNeg) = (σ.2.1 16 (((8 * x2) + x4) : Int32).toNatClampNeg) → ¬ (σ.2.1 15 (((8 * x1) + x4) : Int32).toNatClampNeg) = 1 → ¬ (σ.2.1 15 (((8 * x1) + x4) : Int32).toNatClampNeg) = 5 → (σ.2.1 15 (((8 * x1) + x4) : Int32).toNatClampNeg) = 3 → ∀ (y7 : Int32) σ7, Q7 y7 σ7 → Tn G T w mX2_isLineSame 228 [(0, .ref T), (1, .int x1), (2, .int x2), (4, .int x4)] [.int y7] σ7 Q) (k8 : ¬ (σ.2.1 14 (x1 : Int32).toNatClampNeg) ≤ x4 → ¬ x3 = 0 → (σ.2.1 15 (((8 * x1) + x4) : Int32).toNatClampNeg) = (σ.2.1 15 (((8 * x2) + x4) : Int32).toNatClampNeg) → (σ.2.1 16 (((8 * x1) + x4) : Int32).toNatClampNeg) = (σ.2.1 16 (((8 * x2) + x4) : Int32).toNatClampNeg) → ¬ (σ.2.1 15 (((8 * x1) + x4) : Int32).toNatClampNeg) = 1 → ¬ (σ.2.1 15 (((8 * x1) + x4) : Int32).toNatClampNeg) = 5 → ¬ (σ.2.1 15 (((8 * x1) + x4) : Int32).toNatClampNeg) = 3 → ¬ (σ.2.1 15 (((8 * x1) + x4) : Int32).toNatClampNeg) = 4 → Tn G T w mX2_isLineSame 67 [(0, .ref T), (1, .int x1), (2, .int x2), (3, .int 1), (4, .int (x4 + 1))] [] σ Q) {Q9 : Int32 → TW → Prop} (e9 : ¬ (σ.2.1 14 (x1 : Int32).toNatClampNeg) ≤ x4 → ¬ x3 = 0 → (σ.2.1 15 (((8 * x1) + x4) : Int32).toNatClampNeg) = (σ.2.1 15 (((8 * x2) + x4) : Int32).toNatClampNeg) → (σ.2.1 16 (((8 * x1) + x4) : Int32).toNatClampNeg) = (σ.2.1 16 (((8 * x2) + x4) : Int32).toNatClampNeg) → ¬ (σ.2.1 15 (((8 * x1) + x4) : Int32).toNatClampNeg) = 1 → ¬ (σ.2.1 15 (((8 * x1) + x4) : Int32).toNatClampNeg) = 5 → ¬ (σ.2.1 15 (((8 * x1) + x4) : Int32).toNatClampNeg) = 3 → (σ.2.1 15 (((8 * x1) + x4) : Int32).toNatClampNeg) = 4 → Tvi G T w mX2_isSame [.ref (T + 16), .int (20 * ((8 * x1) + x4)), .ref (T + 16), .int (20 * ((8 * x2) + x4)), .int (σ.2.1 16 (((8 * x1) + x4) : Int32).toNatClampNeg)] σ Q9) (k9 : ¬ (σ.2.1 14 (x1 : Int32).toNatClampNeg) ≤ x4 → ¬ x3 = 0 → (σ.2.1 15 (((8 * x1) + x4) : Int32).toNatClampNeg) = (σ.2.1 15 (((8 * x2) + x4) : Int32).toNatClampNeg) → (σ.2.1 16 (((8 * x1) + x4) : Int32).toNatClampNeg) = (σ.2.1 16 (((8 * x2) + x4) : Int32).toNatClampNeg) → ¬ (σ.2.1 15 (((8 * x1) + x4) : Int32).toNatClampNeg) = 1 → ¬ (σ.2.1 15 (((8 * x1) + x4) : Int32).toNatClampNeg) = 5 → ¬ (σ.2.1 15 (((8 * x1) + x4) : Int32).toNatClampNeg) = 3 → (σ.2.1 15 (((8 * x1) + x4) : Int32).toNatClampNeg) = 4 → ∀ (y9 : Int32) σ9, Q9 y9 σ9 → Tn G T w mX2_isLineSame 228 [(0, .ref T), (1, .int x1), (2, .int x2), (4, .int x4)] [.int y9] σ9 Q) : Tn G T w mX2_isLineSame 67 [(0, .ref T), (1, .int x1), (2, .int x2), (3, .int x3), (4, .int x4)] [] σ Q := by
  refine p_iload 40 69 4 rfl rfl rfl ?_
  refine p_aload_n 41 70 0 rfl rfl rfl ?_
  refine t_geti (v := .ref (T + 13)) fl_X2_47 42 73 rfl rfl rfl ?_
  refine p_iload_n 43 74 1 rfl rfl rfl ?_
  refine t_iald (d := 13) (f := 14) (v := (σ.2.1 14 (x1 : Int32).toNatClampNeg)) 44 75 rfl rfl td_13 rfl tf_14 b1 rfl ?_
  refine p_icmp_ge 45 78 243 rfl rfl rfl (fun c1 => ?_) (fun c1 => ?_)
  · refine p_iload_n 136 244 3 rfl rfl rfl ?_
    exact t_iret 137 rfl rfl (b2 c1) (k1 c1)
  · refine p_iload_n 46 79 3 rfl rfl rfl ?_
    refine p_if_eq 47 82 243 rfl rfl rfl (fun c2 => ?_) (fun c2 => ?_)
    · refine p_iload_n 136 244 3 rfl rfl rfl ?_
      exact t_iret 137 rfl rfl (b3 c1 c2) (k2 c1 c2)
    · refine p_bipush 48 84 rfl rfl cb_8 ?_
      refine p_iload_n 49 85 1 rfl rfl rfl ?_
      refine p_imul 50 86 rfl rfl ?_
      refine p_iload 51 88 4 rfl rfl rfl ?_
      refine p_iadd 52 89 rfl rfl ?_
      refine p_istore (lv' := [(5, .int ((8 * x1) + x4)), (0, .ref T), (1, .int x1), (2, .int x2), (3, .int x3), (4, .int x4)]) 53 91 rfl rfl (Nat.le_of_ble_eq_true rfl) rfl ?_
      refine p_bipush 54 93 rfl rfl cb_8 ?_
      refine p_iload_n 55 94 3 rfl rfl rfl ?_
      refine p_imul 56 95 rfl rfl ?_
      refine p_iload 57 97 5 rfl rfl rfl ?_
      refine p_iadd 58 98 rfl rfl ?_
      refine p_istore (lv' := [(6, .int ((8 * x2) + x4)), (5, .int ((8 * x1) + x4)), (0, .ref T), (1, .int x1), (2, .int x2), (3, .int x3), (4, .int x4)]) 59 100 rfl rfl (Nat.le_of_ble_eq_true rfl) rfl ?_
      refine p_aload_n 60 101 2 rfl rfl rfl ?_
      refine t_geti (v := .ref (T + 14)) fl_X2_50 61 104 rfl rfl rfl ?_
      refine p_iload 62 106 1 rfl rfl rfl ?_
      refine t_iald (d := 14) (f := 15) (v := (σ.2.1 15 (((8 * x1) + x4) : Int32).toNatClampNeg)) 63 107 rfl rfl td_14 rfl tf_15 (b4 c1 c2) rfl ?_
      refine p_aload_n 64 108 2 rfl rfl rfl ?_
      refine t_geti (v := .ref (T + 14)) fl_X2_50 65 111 rfl rfl rfl ?_
      refine p_iload 66 113 0 rfl rfl rfl ?_
      refine t_iald (d := 14) (f := 15) (v := (σ.2.1 15 (((8 * x2) + x4) : Int32).toNatClampNeg)) 67 114 rfl rfl td_14 rfl tf_15 (b5 c1 c2) rfl ?_
      refine p_icmp_ne 68 117 138 rfl rfl rfl (fun c3 => ?_) (fun c3 => ?_)
      · exact p_sub [2, 3, 4, 6, 1, 0] rfl (k3 c1 c2 c3)
      · refine p_aload_n 69 118 2 rfl rfl rfl ?_
        refine t_geti (v := .ref (T + 15)) fl_X2_53 70 121 rfl rfl rfl ?_
        refine p_iload 71 123 1 rfl rfl rfl ?_
        refine t_iald (d := 15) (f := 16) (v := (σ.2.1 16 (((8 * x1) + x4) : Int32).toNatClampNeg)) 72 124 rfl rfl td_15 rfl tf_16 (b4 c1 c2) rfl ?_
        refine p_aload_n 73 125 2 rfl rfl rfl ?_
        refine t_geti (v := .ref (T + 15)) fl_X2_53 74 128 rfl rfl rfl ?_
        refine p_iload 75 130 0 rfl rfl rfl ?_
        refine t_iald (d := 15) (f := 16) (v := (σ.2.1 16 (((8 * x2) + x4) : Int32).toNatClampNeg)) 76 131 rfl rfl td_15 rfl tf_16 (b5 c1 c2) rfl ?_
        refine p_icmp_ne 77 134 138 rfl rfl rfl (fun c4 => ?_) (fun c4 => ?_)
        · exact p_sub [2, 3, 4, 6, 1, 0] rfl (k4 c1 c2 c3 c4)
        · refine p_iconst 78 135 rfl rfl ci_1 ?_
          refine p_goto 79 139 rfl rfl ?_
          refine p_istore_n (lv' := [(3, .int 1), (6, .int ((8 * x2) + x4)), (5, .int ((8 * x1) + x4)), (0, .ref T), (1, .int x1), (2, .int x2), (4, .int x4)]) 81 140 rfl rfl (Nat.le_of_ble_eq_true rfl) rfl ?_
          refine p_aload_n 82 141 3 rfl rfl rfl ?_
          refine t_geti (v := .ref (T + 14)) fl_X2_50 83 144 rfl rfl rfl ?_
          refine p_iload 84 146 2 rfl rfl rfl ?_
          refine t_iald (d := 14) (f := 15) (v := (σ.2.1 15 (((8 * x1) + x4) : Int32).toNatClampNeg)) 85 147 rfl rfl td_14 rfl tf_15 (b4 c1 c2) rfl ?_
          refine p_iconst 86 148 rfl rfl ci_1 ?_
          refine p_icmp_eq 87 151 184 rfl rfl rfl (fun c5 => ?_) (fun c5 => ?_)
          · refine p_iconst 106 185 rfl rfl ci_1 ?_
            refine p_goto 107 189 rfl rfl ?_
            refine p_istore (lv' := [(7, .int 1), (3, .int 1), (6, .int ((8 * x2) + x4)), (5, .int ((8 * x1) + x4)), (0, .ref T), (1, .int x1), (2, .int x2), (4, .int x4)]) 109 191 rfl rfl (Nat.le_of_ble_eq_true rfl) rfl ?_
            refine p_iload_n 110 192 1 rfl rfl rfl ?_
            refine p_if_eq 111 195 235 rfl rfl rfl (fun c => absurd c (by decide)) (fun _ => ?_)
            refine p_iload 112 197 0 rfl rfl rfl ?_
            refine p_if_eq 113 200 231 rfl rfl rfl (fun c => absurd c (by decide)) (fun _ => ?_)
            refine p_aload_n 114 201 4 rfl rfl rfl ?_
            refine t_geti (v := .ref (T + 16)) fl_X2_56 115 204 rfl rfl rfl ?_
            refine p_bipush 116 206 rfl rfl cb_20 ?_
            refine p_iload 117 208 3 rfl rfl rfl ?_
            refine p_imul 118 209 rfl rfl ?_
            refine p_aload_n 119 210 4 rfl rfl rfl ?_
            refine t_geti (v := .ref (T + 16)) fl_X2_56 120 213 rfl rfl rfl ?_
            refine p_bipush 121 215 rfl rfl cb_20 ?_
            refine p_iload 122 217 2 rfl rfl rfl ?_
            refine p_imul 123 218 rfl rfl ?_
            refine p_aload_n 124 219 4 rfl rfl rfl ?_
            refine t_geti (v := .ref (T + 15)) fl_X2_53 125 222 rfl rfl rfl ?_
            refine p_iload 126 224 3 rfl rfl rfl ?_
            refine t_iald (d := 15) (f := 16) (v := (σ.2.1 16 (((8 * x1) + x4) : Int32).toNatClampNeg)) 127 225 rfl rfl td_15 rfl tf_16 (b4 c1 c2) rfl ?_
            exact t_cTi lk_X2_117 128 228 rfl rfl (by decide) [.ref (T + 16), .int (20 * ((8 * x1) + x4)), .ref (T + 16), .int (20 * ((8 * x2) + x4)), .int (σ.2.1 16 (((8 * x1) + x4) : Int32).toNatClampNeg)] rfl rfl (Nat.le_of_ble_eq_true rfl) (Nat.le_of_ble_eq_true rfl) (e5 c1 c2 c3 c4 c5) (fun x σ1 h => p_sub [4, 5, 6, 7] rfl (k5 c1 c2 c3 c4 c5 x σ1 h))
          · refine p_aload_n 88 152 3 rfl rfl rfl ?_
            refine t_geti (v := .ref (T + 14)) fl_X2_50 89 155 rfl rfl rfl ?_
            refine p_iload 90 157 2 rfl rfl rfl ?_
            refine t_iald (d := 14) (f := 15) (v := (σ.2.1 15 (((8 * x1) + x4) : Int32).toNatClampNeg)) 91 158 rfl rfl td_14 rfl tf_15 (b4 c1 c2) rfl ?_
            refine p_iconst 92 159 rfl rfl ci_5 ?_
            refine p_icmp_eq 93 162 184 rfl rfl rfl (fun c6 => ?_) (fun c6 => ?_)
            · refine p_iconst 106 185 rfl rfl ci_1 ?_
              refine p_goto 107 189 rfl rfl ?_
              refine p_istore (lv' := [(7, .int 1), (3, .int 1), (6, .int ((8 * x2) + x4)), (5, .int ((8 * x1) + x4)), (0, .ref T), (1, .int x1), (2, .int x2), (4, .int x4)]) 109 191 rfl rfl (Nat.le_of_ble_eq_true rfl) rfl ?_
              refine p_iload_n 110 192 1 rfl rfl rfl ?_
              refine p_if_eq 111 195 235 rfl rfl rfl (fun c => absurd c (by decide)) (fun _ => ?_)
              refine p_iload 112 197 0 rfl rfl rfl ?_
              refine p_if_eq 113 200 231 rfl rfl rfl (fun c => absurd c (by decide)) (fun _ => ?_)
              refine p_aload_n 114 201 4 rfl rfl rfl ?_
              refine t_geti (v := .ref (T + 16)) fl_X2_56 115 204 rfl rfl rfl ?_
              refine p_bipush 116 206 rfl rfl cb_20 ?_
              refine p_iload 117 208 3 rfl rfl rfl ?_
              refine p_imul 118 209 rfl rfl ?_
              refine p_aload_n 119 210 4 rfl rfl rfl ?_
              refine t_geti (v := .ref (T + 16)) fl_X2_56 120 213 rfl rfl rfl ?_
              refine p_bipush 121 215 rfl rfl cb_20 ?_
              refine p_iload 122 217 2 rfl rfl rfl ?_
              refine p_imul 123 218 rfl rfl ?_
              refine p_aload_n 124 219 4 rfl rfl rfl ?_
              refine t_geti (v := .ref (T + 15)) fl_X2_53 125 222 rfl rfl rfl ?_
              refine p_iload 126 224 3 rfl rfl rfl ?_
              refine t_iald (d := 15) (f := 16) (v := (σ.2.1 16 (((8 * x1) + x4) : Int32).toNatClampNeg)) 127 225 rfl rfl td_15 rfl tf_16 (b4 c1 c2) rfl ?_
              exact t_cTi lk_X2_117 128 228 rfl rfl (by decide) [.ref (T + 16), .int (20 * ((8 * x1) + x4)), .ref (T + 16), .int (20 * ((8 * x2) + x4)), .int (σ.2.1 16 (((8 * x1) + x4) : Int32).toNatClampNeg)] rfl rfl (Nat.le_of_ble_eq_true rfl) (Nat.le_of_ble_eq_true rfl) (e6 c1 c2 c3 c4 c5 c6) (fun x σ1 h => p_sub [4, 5, 6, 7] rfl (k6 c1 c2 c3 c4 c5 c6 x σ1 h))
            · refine p_aload_n 94 163 3 rfl rfl rfl ?_
              refine t_geti (v := .ref (T + 14)) fl_X2_50 95 166 rfl rfl rfl ?_
              refine p_iload 96 168 2 rfl rfl rfl ?_
              refine t_iald (d := 14) (f := 15) (v := (σ.2.1 15 (((8 * x1) + x4) : Int32).toNatClampNeg)) 97 169 rfl rfl td_14 rfl tf_15 (b4 c1 c2) rfl ?_
              refine p_iconst 98 170 rfl rfl ci_3 ?_
              refine p_icmp_eq 99 173 184 rfl rfl rfl (fun c7 => ?_) (fun c7 => ?_)
              · refine p_iconst 106 185 rfl rfl ci_1 ?_
                refine p_goto 107 189 rfl rfl ?_
                refine p_istore (lv' := [(7, .int 1), (3, .int 1), (6, .int ((8 * x2) + x4)), (5, .int ((8 * x1) + x4)), (0, .ref T), (1, .int x1), (2, .int x2), (4, .int x4)]) 109 191 rfl rfl (Nat.le_of_ble_eq_true rfl) rfl ?_
                refine p_iload_n 110 192 1 rfl rfl rfl ?_
                refine p_if_eq 111 195 235 rfl rfl rfl (fun c => absurd c (by decide)) (fun _ => ?_)
                refine p_iload 112 197 0 rfl rfl rfl ?_
                refine p_if_eq 113 200 231 rfl rfl rfl (fun c => absurd c (by decide)) (fun _ => ?_)
                refine p_aload_n 114 201 4 rfl rfl rfl ?_
                refine t_geti (v := .ref (T + 16)) fl_X2_56 115 204 rfl rfl rfl ?_
                refine p_bipush 116 206 rfl rfl cb_20 ?_
                refine p_iload 117 208 3 rfl rfl rfl ?_
                refine p_imul 118 209 rfl rfl ?_
                refine p_aload_n 119 210 4 rfl rfl rfl ?_
                refine t_geti (v := .ref (T + 16)) fl_X2_56 120 213 rfl rfl rfl ?_
                refine p_bipush 121 215 rfl rfl cb_20 ?_
                refine p_iload 122 217 2 rfl rfl rfl ?_
                refine p_imul 123 218 rfl rfl ?_
                refine p_aload_n 124 219 4 rfl rfl rfl ?_
                refine t_geti (v := .ref (T + 15)) fl_X2_53 125 222 rfl rfl rfl ?_
                refine p_iload 126 224 3 rfl rfl rfl ?_
                refine t_iald (d := 15) (f := 16) (v := (σ.2.1 16 (((8 * x1) + x4) : Int32).toNatClampNeg)) 127 225 rfl rfl td_15 rfl tf_16 (b4 c1 c2) rfl ?_
                exact t_cTi lk_X2_117 128 228 rfl rfl (by decide) [.ref (T + 16), .int (20 * ((8 * x1) + x4)), .ref (T + 16), .int (20 * ((8 * x2) + x4)), .int (σ.2.1 16 (((8 * x1) + x4) : Int32).toNatClampNeg)] rfl rfl (Nat.le_of_ble_eq_true rfl) (Nat.le_of_ble_eq_true rfl) (e7 c1 c2 c3 c4 c5 c6 c7) (fun x σ1 h => p_sub [4, 5, 6, 7] rfl (k7 c1 c2 c3 c4 c5 c6 c7 x σ1 h))
              · refine p_aload_n 100 174 3 rfl rfl rfl ?_
                refine t_geti (v := .ref (T + 14)) fl_X2_50 101 177 rfl rfl rfl ?_
                refine p_iload 102 179 2 rfl rfl rfl ?_
                refine t_iald (d := 14) (f := 15) (v := (σ.2.1 15 (((8 * x1) + x4) : Int32).toNatClampNeg)) 103 180 rfl rfl td_14 rfl tf_15 (b4 c1 c2) rfl ?_
                refine p_iconst 104 181 rfl rfl ci_4 ?_
                refine p_icmp_ne 105 184 188 rfl rfl rfl (fun c8 => ?_) (fun c8 => ?_)
                · refine p_iconst 108 189 rfl rfl ci_0 ?_
                  refine p_istore (lv' := [(7, .int 0), (3, .int 1), (6, .int ((8 * x2) + x4)), (5, .int ((8 * x1) + x4)), (0, .ref T), (1, .int x1), (2, .int x2), (4, .int x4)]) 109 191 rfl rfl (Nat.le_of_ble_eq_true rfl) rfl ?_
                  refine p_iload_n 110 192 1 rfl rfl rfl ?_
                  refine p_if_eq 111 195 235 rfl rfl rfl (fun c => absurd c (by decide)) (fun _ => ?_)
                  refine p_iload 112 197 0 rfl rfl rfl ?_
                  refine p_if_eq 113 200 231 rfl rfl rfl (fun _ => ?_) (fun c => absurd c (by decide))
                  refine p_iconst 130 232 rfl rfl ci_1 ?_
                  refine p_goto 131 236 rfl rfl ?_
                  refine p_istore_n (lv' := [(3, .int 1), (7, .int 0), (6, .int ((8 * x2) + x4)), (5, .int ((8 * x1) + x4)), (0, .ref T), (1, .int x1), (2, .int x2), (4, .int x4)]) 133 237 rfl rfl (Nat.le_of_ble_eq_true rfl) rfl ?_
                  refine p_iinc (v := (x4 + 1)) (lv' := [(4, .int (x4 + 1)), (3, .int 1), (7, .int 0), (6, .int ((8 * x2) + x4)), (5, .int ((8 * x1) + x4)), (0, .ref T), (1, .int x1), (2, .int x2)]) 134 240 7 rfl rfl rfl (congrArg (fun z => x4 + z) ci_1) (Nat.le_of_ble_eq_true rfl) rfl ?_
                  refine p_goto 135 67 rfl rfl ?_
                  exact p_sub [5, 6, 7, 1, 0] rfl (k8 c1 c2 c3 c4 c5 c6 c7 c8)
                · refine p_iconst 106 185 rfl rfl ci_1 ?_
                  refine p_goto 107 189 rfl rfl ?_
                  refine p_istore (lv' := [(7, .int 1), (3, .int 1), (6, .int ((8 * x2) + x4)), (5, .int ((8 * x1) + x4)), (0, .ref T), (1, .int x1), (2, .int x2), (4, .int x4)]) 109 191 rfl rfl (Nat.le_of_ble_eq_true rfl) rfl ?_
                  refine p_iload_n 110 192 1 rfl rfl rfl ?_
                  refine p_if_eq 111 195 235 rfl rfl rfl (fun c => absurd c (by decide)) (fun _ => ?_)
                  refine p_iload 112 197 0 rfl rfl rfl ?_
                  refine p_if_eq 113 200 231 rfl rfl rfl (fun c => absurd c (by decide)) (fun _ => ?_)
                  refine p_aload_n 114 201 4 rfl rfl rfl ?_
                  refine t_geti (v := .ref (T + 16)) fl_X2_56 115 204 rfl rfl rfl ?_
                  refine p_bipush 116 206 rfl rfl cb_20 ?_
                  refine p_iload 117 208 3 rfl rfl rfl ?_
                  refine p_imul 118 209 rfl rfl ?_
                  refine p_aload_n 119 210 4 rfl rfl rfl ?_
                  refine t_geti (v := .ref (T + 16)) fl_X2_56 120 213 rfl rfl rfl ?_
                  refine p_bipush 121 215 rfl rfl cb_20 ?_
                  refine p_iload 122 217 2 rfl rfl rfl ?_
                  refine p_imul 123 218 rfl rfl ?_
                  refine p_aload_n 124 219 4 rfl rfl rfl ?_
                  refine t_geti (v := .ref (T + 15)) fl_X2_53 125 222 rfl rfl rfl ?_
                  refine p_iload 126 224 3 rfl rfl rfl ?_
                  refine t_iald (d := 15) (f := 16) (v := (σ.2.1 16 (((8 * x1) + x4) : Int32).toNatClampNeg)) 127 225 rfl rfl td_15 rfl tf_16 (b4 c1 c2) rfl ?_
                  exact t_cTi lk_X2_117 128 228 rfl rfl (by decide) [.ref (T + 16), .int (20 * ((8 * x1) + x4)), .ref (T + 16), .int (20 * ((8 * x2) + x4)), .int (σ.2.1 16 (((8 * x1) + x4) : Int32).toNatClampNeg)] rfl rfl (Nat.le_of_ble_eq_true rfl) (Nat.le_of_ble_eq_true rfl) (e9 c1 c2 c3 c4 c5 c6 c7 c8) (fun x σ1 h => p_sub [4, 5, 6, 7] rfl (k9 c1 c2 c3 c4 c5 c6 c7 c8 x σ1 h))
theorem b_isLineSame_138 {G : Gm} {T : Nat} {w : Wd} {σ : TW} {Q : Option Value → TW → Prop} {x1 : Int32} {x2 : Int32} {x4 : Int32} {x5 : Int32} {x6 : Int32} (b1 : vp_in x5 960) (k1 : (σ.2.1 15 (x5 : Int32).toNatClampNeg) = 1 → Tn G T w mX2_isLineSame 67 [(0, .ref T), (1, .int x1), (2, .int x2), (3, .int 0), (4, .int (x4 + 1))] [] σ Q) (k2 : ¬ (σ.2.1 15 (x5 : Int32).toNatClampNeg) = 1 → (σ.2.1 15 (x5 : Int32).toNatClampNeg) = 5 → Tn G T w mX2_isLineSame 67 [(0, .ref T), (1, .int x1), (2, .int x2), (3, .int 0), (4, .int (x4 + 1))] [] σ Q) (k3 : ¬ (σ.2.1 15 (x5 : Int32).toNatClampNeg) = 1 → ¬ (σ.2.1 15 (x5 : Int32).toNatClampNeg) = 5 → (σ.2.1 15 (x5 : Int32).toNatClampNeg) = 3 → Tn G T w mX2_isLineSame 67 [(0, .ref T), (1, .int x1), (2, .int x2), (3, .int 0), (4, .int (x4 + 1))] [] σ Q) (k4 : ¬ (σ.2.1 15 (x5 : Int32).toNatClampNeg) = 1 → ¬ (σ.2.1 15 (x5 : Int32).toNatClampNeg) = 5 → ¬ (σ.2.1 15 (x5 : Int32).toNatClampNeg) = 3 → ¬ (σ.2.1 15 (x5 : Int32).toNatClampNeg) = 4 → Tn G T w mX2_isLineSame 67 [(0, .ref T), (1, .int x1), (2, .int x2), (3, .int 0), (4, .int (x4 + 1))] [] σ Q) (k5 : ¬ (σ.2.1 15 (x5 : Int32).toNatClampNeg) = 1 → ¬ (σ.2.1 15 (x5 : Int32).toNatClampNeg) = 5 → ¬ (σ.2.1 15 (x5 : Int32).toNatClampNeg) = 3 → (σ.2.1 15 (x5 : Int32).toNatClampNeg) = 4 → Tn G T w mX2_isLineSame 67 [(0, .ref T), (1, .int x1), (2, .int x2), (3, .int 0), (4, .int (x4 + 1))] [] σ Q) : Tn G T w mX2_isLineSame 138 [(0, .ref T), (1, .int x1), (2, .int x2), (4, .int x4), (5, .int x5), (6, .int x6)] [] σ Q := by
  refine p_iconst 80 139 rfl rfl ci_0 ?_
  refine p_istore_n (lv' := [(3, .int 0), (0, .ref T), (1, .int x1), (2, .int x2), (4, .int x4), (5, .int x5), (6, .int x6)]) 81 140 rfl rfl (Nat.le_of_ble_eq_true rfl) rfl ?_
  refine p_aload_n 82 141 1 rfl rfl rfl ?_
  refine t_geti (v := .ref (T + 14)) fl_X2_50 83 144 rfl rfl rfl ?_
  refine p_iload 84 146 5 rfl rfl rfl ?_
  refine t_iald (d := 14) (f := 15) (v := (σ.2.1 15 (x5 : Int32).toNatClampNeg)) 85 147 rfl rfl td_14 rfl tf_15 b1 rfl ?_
  refine p_iconst 86 148 rfl rfl ci_1 ?_
  refine p_icmp_eq 87 151 184 rfl rfl rfl (fun c1 => ?_) (fun c1 => ?_)
  · refine p_iconst 106 185 rfl rfl ci_1 ?_
    refine p_goto 107 189 rfl rfl ?_
    refine p_istore (lv' := [(7, .int 1), (3, .int 0), (0, .ref T), (1, .int x1), (2, .int x2), (4, .int x4), (5, .int x5), (6, .int x6)]) 109 191 rfl rfl (Nat.le_of_ble_eq_true rfl) rfl ?_
    refine p_iload_n 110 192 1 rfl rfl rfl ?_
    refine p_if_eq 111 195 235 rfl rfl rfl (fun _ => ?_) (fun c => absurd c (by decide))
    refine p_iconst 132 236 rfl rfl ci_0 ?_
    refine p_istore_n (lv' := [(3, .int 0), (7, .int 1), (0, .ref T), (1, .int x1), (2, .int x2), (4, .int x4), (5, .int x5), (6, .int x6)]) 133 237 rfl rfl (Nat.le_of_ble_eq_true rfl) rfl ?_
    refine p_iinc (v := (x4 + 1)) (lv' := [(4, .int (x4 + 1)), (3, .int 0), (7, .int 1), (0, .ref T), (1, .int x1), (2, .int x2), (5, .int x5), (6, .int x6)]) 134 240 5 rfl rfl rfl (congrArg (fun z => x4 + z) ci_1) (Nat.le_of_ble_eq_true rfl) rfl ?_
    refine p_goto 135 67 rfl rfl ?_
    exact p_sub [3, 4, 5, 1, 0] rfl (k1 c1)
  · refine p_aload_n 88 152 1 rfl rfl rfl ?_
    refine t_geti (v := .ref (T + 14)) fl_X2_50 89 155 rfl rfl rfl ?_
    refine p_iload 90 157 5 rfl rfl rfl ?_
    refine t_iald (d := 14) (f := 15) (v := (σ.2.1 15 (x5 : Int32).toNatClampNeg)) 91 158 rfl rfl td_14 rfl tf_15 b1 rfl ?_
    refine p_iconst 92 159 rfl rfl ci_5 ?_
    refine p_icmp_eq 93 162 184 rfl rfl rfl (fun c2 => ?_) (fun c2 => ?_)
    · refine p_iconst 106 185 rfl rfl ci_1 ?_
      refine p_goto 107 189 rfl rfl ?_
      refine p_istore (lv' := [(7, .int 1), (3, .int 0), (0, .ref T), (1, .int x1), (2, .int x2), (4, .int x4), (5, .int x5), (6, .int x6)]) 109 191 rfl rfl (Nat.le_of_ble_eq_true rfl) rfl ?_
      refine p_iload_n 110 192 1 rfl rfl rfl ?_
      refine p_if_eq 111 195 235 rfl rfl rfl (fun _ => ?_) (fun c => absurd c (by decide))
      refine p_iconst 132 236 rfl rfl ci_0 ?_
      refine p_istore_n (lv' := [(3, .int 0), (7, .int 1), (0, .ref T), (1, .int x1), (2, .int x2), (4, .int x4), (5, .int x5), (6, .int x6)]) 133 237 rfl rfl (Nat.le_of_ble_eq_true rfl) rfl ?_
      refine p_iinc (v := (x4 + 1)) (lv' := [(4, .int (x4 + 1)), (3, .int 0), (7, .int 1), (0, .ref T), (1, .int x1), (2, .int x2), (5, .int x5), (6, .int x6)]) 134 240 5 rfl rfl rfl (congrArg (fun z => x4 + z) ci_1) (Nat.le_of_ble_eq_true rfl) rfl ?_
      refine p_goto 135 67 rfl rfl ?_
      exact p_sub [3, 4, 5, 1, 0] rfl (k2 c1 c2)
    · refine p_aload_n 94 163 1 rfl rfl rfl ?_
      refine t_geti (v := .ref (T + 14)) fl_X2_50 95 166 rfl rfl rfl ?_
      refine p_iload 96 168 5 rfl rfl rfl ?_
      refine t_iald (d := 14) (f := 15) (v := (σ.2.1 15 (x5 : Int32).toNatClampNeg)) 97 169 rfl rfl td_14 rfl tf_15 b1 rfl ?_
      refine p_iconst 98 170 rfl rfl ci_3 ?_
      refine p_icmp_eq 99 173 184 rfl rfl rfl (fun c3 => ?_) (fun c3 => ?_)
      · refine p_iconst 106 185 rfl rfl ci_1 ?_
        refine p_goto 107 189 rfl rfl ?_
        refine p_istore (lv' := [(7, .int 1), (3, .int 0), (0, .ref T), (1, .int x1), (2, .int x2), (4, .int x4), (5, .int x5), (6, .int x6)]) 109 191 rfl rfl (Nat.le_of_ble_eq_true rfl) rfl ?_
        refine p_iload_n 110 192 1 rfl rfl rfl ?_
        refine p_if_eq 111 195 235 rfl rfl rfl (fun _ => ?_) (fun c => absurd c (by decide))
        refine p_iconst 132 236 rfl rfl ci_0 ?_
        refine p_istore_n (lv' := [(3, .int 0), (7, .int 1), (0, .ref T), (1, .int x1), (2, .int x2), (4, .int x4), (5, .int x5), (6, .int x6)]) 133 237 rfl rfl (Nat.le_of_ble_eq_true rfl) rfl ?_
        refine p_iinc (v := (x4 + 1)) (lv' := [(4, .int (x4 + 1)), (3, .int 0), (7, .int 1), (0, .ref T), (1, .int x1), (2, .int x2), (5, .int x5), (6, .int x6)]) 134 240 5 rfl rfl rfl (congrArg (fun z => x4 + z) ci_1) (Nat.le_of_ble_eq_true rfl) rfl ?_
        refine p_goto 135 67 rfl rfl ?_
        exact p_sub [3, 4, 5, 1, 0] rfl (k3 c1 c2 c3)
      · refine p_aload_n 100 174 1 rfl rfl rfl ?_
        refine t_geti (v := .ref (T + 14)) fl_X2_50 101 177 rfl rfl rfl ?_
        refine p_iload 102 179 5 rfl rfl rfl ?_
        refine t_iald (d := 14) (f := 15) (v := (σ.2.1 15 (x5 : Int32).toNatClampNeg)) 103 180 rfl rfl td_14 rfl tf_15 b1 rfl ?_
        refine p_iconst 104 181 rfl rfl ci_4 ?_
        refine p_icmp_ne 105 184 188 rfl rfl rfl (fun c4 => ?_) (fun c4 => ?_)
        · refine p_iconst 108 189 rfl rfl ci_0 ?_
          refine p_istore (lv' := [(7, .int 0), (3, .int 0), (0, .ref T), (1, .int x1), (2, .int x2), (4, .int x4), (5, .int x5), (6, .int x6)]) 109 191 rfl rfl (Nat.le_of_ble_eq_true rfl) rfl ?_
          refine p_iload_n 110 192 1 rfl rfl rfl ?_
          refine p_if_eq 111 195 235 rfl rfl rfl (fun _ => ?_) (fun c => absurd c (by decide))
          refine p_iconst 132 236 rfl rfl ci_0 ?_
          refine p_istore_n (lv' := [(3, .int 0), (7, .int 0), (0, .ref T), (1, .int x1), (2, .int x2), (4, .int x4), (5, .int x5), (6, .int x6)]) 133 237 rfl rfl (Nat.le_of_ble_eq_true rfl) rfl ?_
          refine p_iinc (v := (x4 + 1)) (lv' := [(4, .int (x4 + 1)), (3, .int 0), (7, .int 0), (0, .ref T), (1, .int x1), (2, .int x2), (5, .int x5), (6, .int x6)]) 134 240 5 rfl rfl rfl (congrArg (fun z => x4 + z) ci_1) (Nat.le_of_ble_eq_true rfl) rfl ?_
          refine p_goto 135 67 rfl rfl ?_
          exact p_sub [3, 4, 5, 1, 0] rfl (k4 c1 c2 c3 c4)
        · refine p_iconst 106 185 rfl rfl ci_1 ?_
          refine p_goto 107 189 rfl rfl ?_
          refine p_istore (lv' := [(7, .int 1), (3, .int 0), (0, .ref T), (1, .int x1), (2, .int x2), (4, .int x4), (5, .int x5), (6, .int x6)]) 109 191 rfl rfl (Nat.le_of_ble_eq_true rfl) rfl ?_
          refine p_iload_n 110 192 1 rfl rfl rfl ?_
          refine p_if_eq 111 195 235 rfl rfl rfl (fun _ => ?_) (fun c => absurd c (by decide))
          refine p_iconst 132 236 rfl rfl ci_0 ?_
          refine p_istore_n (lv' := [(3, .int 0), (7, .int 1), (0, .ref T), (1, .int x1), (2, .int x2), (4, .int x4), (5, .int x5), (6, .int x6)]) 133 237 rfl rfl (Nat.le_of_ble_eq_true rfl) rfl ?_
          refine p_iinc (v := (x4 + 1)) (lv' := [(4, .int (x4 + 1)), (3, .int 0), (7, .int 1), (0, .ref T), (1, .int x1), (2, .int x2), (5, .int x5), (6, .int x6)]) 134 240 5 rfl rfl rfl (congrArg (fun z => x4 + z) ci_1) (Nat.le_of_ble_eq_true rfl) rfl ?_
          refine p_goto 135 67 rfl rfl ?_
          exact p_sub [3, 4, 5, 1, 0] rfl (k5 c1 c2 c3 c4)
theorem b_isLineSame_228 {G : Gm} {T : Nat} {w : Wd} {σ : TW} {Q : Option Value → TW → Prop} {x1 : Int32} {x2 : Int32} {x4 : Int32} {s0 : Int32} (k1 : s0 = 0 → Tn G T w mX2_isLineSame 67 [(0, .ref T), (1, .int x1), (2, .int x2), (3, .int 0), (4, .int (x4 + 1))] [] σ Q) (k2 : ¬ s0 = 0 → Tn G T w mX2_isLineSame 67 [(0, .ref T), (1, .int x1), (2, .int x2), (3, .int 1), (4, .int (x4 + 1))] [] σ Q) : Tn G T w mX2_isLineSame 228 [(0, .ref T), (1, .int x1), (2, .int x2), (4, .int x4)] [.int s0] σ Q := by
  refine p_if_eq 129 231 235 rfl rfl rfl (fun c1 => ?_) (fun c1 => ?_)
  · refine p_iconst 132 236 rfl rfl ci_0 ?_
    refine p_istore_n (lv' := [(3, .int 0), (0, .ref T), (1, .int x1), (2, .int x2), (4, .int x4)]) 133 237 rfl rfl (Nat.le_of_ble_eq_true rfl) rfl ?_
    refine p_iinc (v := (x4 + 1)) (lv' := [(4, .int (x4 + 1)), (3, .int 0), (0, .ref T), (1, .int x1), (2, .int x2)]) 134 240 4 rfl rfl rfl (congrArg (fun z => x4 + z) ci_1) (Nat.le_of_ble_eq_true rfl) rfl ?_
    refine p_goto 135 67 rfl rfl ?_
    exact p_sub [2, 3, 4, 1, 0] rfl (k1 c1)
  · refine p_iconst 130 232 rfl rfl ci_1 ?_
    refine p_goto 131 236 rfl rfl ?_
    refine p_istore_n (lv' := [(3, .int 1), (0, .ref T), (1, .int x1), (2, .int x2), (4, .int x4)]) 133 237 rfl rfl (Nat.le_of_ble_eq_true rfl) rfl ?_
    refine p_iinc (v := (x4 + 1)) (lv' := [(4, .int (x4 + 1)), (3, .int 1), (0, .ref T), (1, .int x1), (2, .int x2)]) 134 240 4 rfl rfl rfl (congrArg (fun z => x4 + z) ci_1) (Nat.le_of_ble_eq_true rfl) rfl ?_
    refine p_goto 135 67 rfl rfl ?_
    exact p_sub [2, 3, 4, 1, 0] rfl (k2 c1)
theorem b_count_0 {G : Gm} {T : Nat} {w : Wd} {σ : TW} {Q : Option Value → TW → Prop} {x1 : Int32} {Q1 : Int32 → TW → Prop} (e1 : x1 < 0 → Tvi G T w mX2_fails (.ref T :: [.int 1, .int 1]) (tsI σ 0 0) Q1) (k1 : x1 < 0 → ∀ (y1 : Int32) σ1, Q1 y1 σ1 → Tn G T w mX2_count 24 [(0, .ref T), (1, .int x1)] [.int y1] σ1 Q) {Q2 : Int32 → TW → Prop} (e2 : ¬ x1 < 0 → x1 ≤ 3 → Tvi G T w mX2_fails (.ref T :: [.int 0, .int 1]) (tsI σ 0 0) Q2) (k2 : ¬ x1 < 0 → x1 ≤ 3 → ∀ (y2 : Int32) σ2, Q2 y2 σ2 → Tn G T w mX2_count 24 [(0, .ref T), (1, .int x1)] [.int y2] σ2 Q) {Q3 : Int32 → TW → Prop} (e3 : ¬ x1 < 0 → ¬ x1 ≤ 3 → Tvi G T w mX2_fails (.ref T :: [.int 1, .int 1]) (tsI σ 0 0) Q3) (k3 : ¬ x1 < 0 → ¬ x1 ≤ 3 → ∀ (y3 : Int32) σ3, Q3 y3 σ3 → Tn G T w mX2_count 24 [(0, .ref T), (1, .int x1)] [.int y3] σ3 Q) : Tn G T w mX2_count 0 [(0, .ref T), (1, .int x1)] [] σ Q := by
  refine p_aload_n 0 1 0 rfl rfl rfl ?_
  refine p_iconst 1 2 rfl rfl ci_0 ?_
  refine t_puti fl_X2_69 2 5 rfl rfl rfl rfl (by decide) (tws_0 _ _ _) ?_
  refine p_aload_n 3 6 0 rfl rfl rfl ?_
  refine p_iload_n 4 7 1 rfl rfl rfl ?_
  refine p_if_lt 5 10 15 rfl rfl rfl (fun c1 => ?_) (fun c1 => ?_)
  · refine p_iconst 9 16 rfl rfl ci_1 ?_
    refine p_goto 10 20 rfl rfl ?_
    refine p_iconst 12 21 rfl rfl ci_1 ?_
    exact t_cVi lk_X2_75 13 24 rfl rfl (by decide) [.int 1, .int 1] rfl rfl (Nat.le_of_ble_eq_true rfl) (Nat.le_of_ble_eq_true rfl) (e1 c1) (fun x σ1 h => k1 c1 x σ1 h)
  · refine p_iload_n 6 11 1 rfl rfl rfl ?_
    refine p_iconst 7 12 rfl rfl ci_3 ?_
    refine p_icmp_le 8 15 19 rfl rfl rfl (fun c2 => ?_) (fun c2 => ?_)
    · refine p_iconst 11 20 rfl rfl ci_0 ?_
      refine p_iconst 12 21 rfl rfl ci_1 ?_
      exact t_cVi lk_X2_75 13 24 rfl rfl (by decide) [.int 0, .int 1] rfl rfl (Nat.le_of_ble_eq_true rfl) (Nat.le_of_ble_eq_true rfl) (e2 c1 c2) (fun x σ1 h => k2 c1 c2 x σ1 h)
    · refine p_iconst 9 16 rfl rfl ci_1 ?_
      refine p_goto 10 20 rfl rfl ?_
      refine p_iconst 12 21 rfl rfl ci_1 ?_
      exact t_cVi lk_X2_75 13 24 rfl rfl (by decide) [.int 1, .int 1] rfl rfl (Nat.le_of_ble_eq_true rfl) (Nat.le_of_ble_eq_true rfl) (e3 c1 c2) (fun x σ1 h => k3 c1 c2 x σ1 h)
theorem b_count_24 {G : Gm} {T : Nat} {w : Wd} {σ : TW} {Q : Option Value → TW → Prop} {x1 : Int32} {s0 : Int32} (b1 : s0 = 0 → ¬ x1 = 0 → ¬ x1 = 1 → ¬ x1 = 2 → vp_in 2 3) (k1 : s0 = 0 → ¬ x1 = 0 → ¬ x1 = 1 → ¬ x1 = 2 → Q (some (.int (σ.2.1 10 (2 : Int32).toNatClampNeg))) σ) (b2 : s0 = 0 → ¬ x1 = 0 → ¬ x1 = 1 → x1 = 2 → vp_in 0 3) (k2 : s0 = 0 → ¬ x1 = 0 → ¬ x1 = 1 → x1 = 2 → Q (some (.int (σ.2.1 10 (0 : Int32).toNatClampNeg))) σ) (b3 : s0 = 0 → ¬ x1 = 0 → x1 = 1 → vp_in 0 2) (k3 : s0 = 0 → ¬ x1 = 0 → x1 = 1 → Q (some (.int (σ.2.1 4 (0 : Int32).toNatClampNeg))) σ) (k4 : s0 = 0 → x1 = 0 → Q (some (.int (σ.1 1))) σ) (k5 : ¬ s0 = 0 → Q (some (.int 0)) σ) : Tn G T w mX2_count 24 [(0, .ref T), (1, .int x1)] [.int s0] σ Q := by
  refine p_if_eq 14 27 29 rfl rfl rfl (fun c1 => ?_) (fun c1 => ?_)
  · refine p_iload_n 17 30 1 rfl rfl rfl ?_
    refine p_if_ne 18 33 40 rfl rfl rfl (fun c2 => ?_) (fun c2 => ?_)
    · refine p_iload_n 22 41 1 rfl rfl rfl ?_
      refine p_iconst 23 42 rfl rfl ci_1 ?_
      refine p_icmp_ne 24 45 54 rfl rfl rfl (fun c3 => ?_) (fun c3 => ?_)
      · refine p_iload_n 30 55 1 rfl rfl rfl ?_
        refine p_iconst 31 56 rfl rfl ci_2 ?_
        refine p_icmp_ne 32 59 68 rfl rfl rfl (fun c4 => ?_) (fun c4 => ?_)
        · refine p_aload_n 38 69 0 rfl rfl rfl ?_
          refine t_geti (v := .ref (T + 9)) fl_X2_35 39 72 rfl rfl rfl ?_
          refine p_iconst 40 73 rfl rfl ci_2 ?_
          refine t_iald (d := 9) (f := 10) (v := (σ.2.1 10 (2 : Int32).toNatClampNeg)) 41 74 rfl rfl td_9 rfl tf_10 (b1 c1 c2 c3 c4) rfl ?_
          exact t_iret 42 rfl rfl rfl (k1 c1 c2 c3 c4)
        · refine p_aload_n 33 60 0 rfl rfl rfl ?_
          refine t_geti (v := .ref (T + 9)) fl_X2_35 34 63 rfl rfl rfl ?_
          refine p_iconst 35 64 rfl rfl ci_0 ?_
          refine t_iald (d := 9) (f := 10) (v := (σ.2.1 10 (0 : Int32).toNatClampNeg)) 36 65 rfl rfl td_9 rfl tf_10 (b2 c1 c2 c3 c4) rfl ?_
          refine p_goto 37 74 rfl rfl ?_
          exact t_iret 42 rfl rfl rfl (k2 c1 c2 c3 c4)
      · refine p_aload_n 25 46 0 rfl rfl rfl ?_
        refine t_geti (v := .ref (T + 3)) fl_X2_16 26 49 rfl rfl rfl ?_
        refine p_iconst 27 50 rfl rfl ci_0 ?_
        refine t_iald (d := 3) (f := 4) (v := (σ.2.1 4 (0 : Int32).toNatClampNeg)) 28 51 rfl rfl td_3 rfl tf_4 (b3 c1 c2 c3) rfl ?_
        refine p_goto 29 74 rfl rfl ?_
        exact t_iret 42 rfl rfl rfl (k3 c1 c2 c3)
    · refine p_aload_n 19 34 0 rfl rfl rfl ?_
      refine t_geti (v := .int (σ.1 1)) fl_X2_79 20 37 rfl rfl rfl ?_
      refine p_goto 21 74 rfl rfl ?_
      exact t_iret 42 rfl rfl rfl (k4 c1 c2)
  · refine p_iconst 15 28 rfl rfl ci_0 ?_
    exact t_iret 16 rfl rfl rfl (k5 c1)
