set_option maxRecDepth 100000
theorem db_8 : (Int8.ofInt 8).toInt32 = 8 := by decide
theorem db_9 : (Int8.ofInt 9).toInt32 = 9 := by decide
theorem db_32 : (Int8.ofInt 32).toInt32 = 32 := by decide
theorem db_45 : (Int8.ofInt 45).toInt32 = 45 := by decide
theorem db_48 : (Int8.ofInt 48).toInt32 = 48 := by decide
theorem db_57 : (Int8.ofInt 57).toInt32 = 57 := by decide
theorem db_65 : (Int8.ofInt 65).toInt32 = 65 := by decide
theorem db_90 : (Int8.ofInt 90).toInt32 = 90 := by decide
theorem fl_X3_9_X3 : FL RX3 9 nX3 0 RX3 TX3 2 := ⟨rfl, by decide, _, q233, Or.inl rfl⟩
theorem fl_X8_7_X8 : FL RX8 7 nX8 0 RX8 TX8 3 := ⟨rfl, by decide, _, q1247, Or.inl rfl⟩
theorem fl_X8_13_X8 : FL RX8 13 nX8 1 RX8 TX8 3 := ⟨rfl, by decide, _, q1251, Or.inl rfl⟩
theorem fl_X8_17_X8 : FL RX8 17 nX8 2 RX8 TX8 3 := ⟨rfl, by decide, _, q1252, Or.inl rfl⟩
theorem fl_X5_9_X5 : FL RX5 9 nX5 0 RX5 TE5 6 := ⟨rfl, by decide, _, q359, Or.inl rfl⟩
theorem fl_X7_10_X7 : FL RX7 10 nX7 2 RX7 TX7 3 := ⟨rfl, by decide, _, q1198, Or.inl rfl⟩
theorem fl_X7_16_X7 : FL RX7 16 nX7 0 RX7 TX7 3 := ⟨rfl, by decide, _, q1194, Or.inl rfl⟩
theorem fl_X7_20_X7 : FL RX7 20 nX7 1 RX7 TX7 3 := ⟨rfl, by decide, _, q1196, Or.inl rfl⟩
theorem fl_X4_10_X4 : FL RX4 10 nX4 1 RX4 TX4 3 := ⟨rfl, by decide, _, q642, Or.inl rfl⟩
theorem fl_X4_19_X4 : FL RX4 19 nX4 2 RX4 TX4 3 := ⟨rfl, by decide, _, q644, Or.inl rfl⟩
theorem fl_X4_23_X4 : FL RX4 23 nX4 0 RX4 TX4 3 := ⟨rfl, by decide, _, q639, Or.inl rfl⟩
theorem fl_X3_15_X3 : FL RX3 15 nX3 1 RX3 TX3 2 := ⟨rfl, by decide, _, q234, Or.inl rfl⟩
theorem lkI_X8_1 : LkI RX8 1 mJ28_init 0 := ⟨okJ28_init, q1243, q1244, rfl, rfl, rfl, ⟨by decide, by decide⟩, by decide +kernel⟩
theorem lkI_X3_38 : LkI RX3 38 mX5_init 1 := ⟨okX5_init, q349, q350, rfl, rfl, rfl, ⟨by decide, by decide⟩, by decide +kernel⟩
theorem lkV_X8_40_X8 : LkV RX8 40 RX8 mX8_isText 0 := ⟨okX8_isText, q1803, q1804, q1805, ⟨by decide, by decide⟩, by decide +kernel⟩
theorem lkV_X8_44_J2 : LkV RX8 44 RJ2 mJ2_length 0 := ⟨okJ2_length, q1505, q504, q505, ⟨by decide, by decide⟩, by decide +kernel⟩
theorem lkV_X8_50_J2 : LkV RX8 50 RJ2 mJ2_charAt 1 := ⟨okJ2_charAt, q1506, q1507, q1508, ⟨by decide, by decide⟩, by decide +kernel⟩
theorem lkI_X8_23 : LkI RX8 23 mX8_init 3 := ⟨okX8_init, q1275, q1241, rfl, rfl, rfl, ⟨by decide, by decide⟩, by decide +kernel⟩
theorem lkI_X7_9 : LkI RX7 9 mJ6_init 0 := ⟨okJ6_init, q1193, q149, rfl, rfl, rfl, ⟨by decide, by decide⟩, by decide +kernel⟩
theorem lkI_X4_9 : LkI RX4 9 mJ6_init 0 := ⟨okJ6_init, q614, q149, rfl, rfl, rfl, ⟨by decide, by decide⟩, by decide +kernel⟩
theorem lkI_X4_18 : LkI RX4 18 mJ21_init 0 := ⟨okJ21_init, q617, q618, rfl, rfl, rfl, ⟨by decide, by decide⟩, by decide +kernel⟩
theorem lkV_X4_27_J6 : LkV RX4 27 RJ6 mJ6_size 0 := ⟨okJ6_size, q799, q654, q655, ⟨by decide, by decide⟩, by decide +kernel⟩
theorem lkV_X3_19_J1 : LkV RX3 19 RJ1 mJ1_length 0 := ⟨okJ1_length, q252, q253, q254, ⟨by decide, by decide⟩, by decide +kernel⟩
theorem lkV_X3_25_J1 : LkV RX3 25 RJ1 mJ1_charAt 1 := ⟨okJ1_charAt, q259, q260, q261, ⟨by decide, by decide⟩, by decide +kernel⟩
theorem lkV_X3_29_X3 : LkV RX3 29 RX3 mX3_skip 0 := ⟨okX3_skip, q248, q250, qs1, ⟨by decide, by decide⟩, by decide +kernel⟩
theorem lkV_X3_32_X3 : LkV RX3 32 RX3 mX3_here 0 := ⟨okX3_here, q244, q246, qs0, ⟨by decide, by decide⟩, by decide +kernel⟩
theorem lkV_X3_41_X3 : LkV RX3 41 RX3 mX3_want_2 2 := ⟨okX3_want_2, q306, q307, q308, ⟨by decide, by decide⟩, by decide +kernel⟩
theorem lkV_X3_45_X3 : LkV RX3 45 RX3 mX3_is 1 := ⟨okX3_is, q739, q740, q741, ⟨by decide, by decide⟩, by decide +kernel⟩
theorem lkV_X3_49_X3 : LkV RX3 49 RX3 mX3_want 1 := ⟨okX3_want, q302, q303, q304, ⟨by decide, by decide⟩, by decide +kernel⟩
theorem lkS_X3_52 : LkS RX3 52 mX3_isLetter 1 := ⟨okX3_isLetter, q299, q300, ⟨by decide, by decide⟩, by decide +kernel⟩
theorem lkV_X3_55_J1 : LkV RX3 55 RJ1 mJ1_substring 2 := ⟨okJ1_substring, q376, q377, q378, ⟨by decide, by decide⟩, by decide +kernel⟩
theorem lkS_X3_59 : LkS RX3 59 mX3_isDigit 1 := ⟨okX3_isDigit, q932, q933, ⟨by decide, by decide⟩, by decide +kernel⟩
theorem e_X3_isLetter {G : Gm} {κ : Nat → Nat} {φ : Nat → Option Nat} (hS : GS G κ φ) {w : Wd} {Q : Rs → Wd → Prop} {m1 : Nat} (bd1 : m1 < 2 ^ 31) (k2 : m1 < 65 → Q (.inl (some (.int 0))) w) (k3 : ¬ m1 < 65 → 90 < m1 → Q (.inl (some (.int 0))) w) (k4 : ¬ m1 < 65 → ¬ 90 < m1 → Q (.inl (some (.int 1))) w) : Ev G mX3_isLetter [.int (nI m1)] w Q := by
  show Rn G mX3_isLetter 0 [(0, .int (nI m1))] [] w Q
  refine r_iload_n 0 1 0 rfl rfl rfl ?_
  refine r_bipush 1 3 rfl rfl db_65 ?_
  refine y_icmp_lt (a := m1) (b := 65) bd1 (by decide) 2 6 16 rfl rfl rfl (fun c1 => ?_) (fun c1 => ?_)
  · refine r_iconst 8 17 rfl rfl di_0 ?_
    exact r_iret 9 rfl rfl (by decide) (k2 c1)
  · refine r_iload_n 3 7 0 rfl rfl rfl ?_
    refine r_bipush 4 9 rfl rfl db_90 ?_
    refine y_icmp_gt (a := m1) (b := 90) (by omega) (by decide) 5 12 16 rfl rfl rfl (fun c2 => ?_) (fun c2 => ?_)
    · refine r_iconst 8 17 rfl rfl di_0 ?_
      exact r_iret 9 rfl rfl (by decide) (k3 c1 c2)
    · refine r_iconst 6 13 rfl rfl di_1 ?_
      refine r_goto 7 17 rfl rfl ?_
      exact r_iret 9 rfl rfl (by decide) (k4 c1 c2)
theorem e_X3_isDigit {G : Gm} {κ : Nat → Nat} {φ : Nat → Option Nat} (hS : GS G κ φ) {w : Wd} {Q : Rs → Wd → Prop} {m1 : Nat} (bd1 : m1 < 2 ^ 31) (k2 : m1 < 48 → Q (.inl (some (.int 0))) w) (k3 : ¬ m1 < 48 → 57 < m1 → Q (.inl (some (.int 0))) w) (k4 : ¬ m1 < 48 → ¬ 57 < m1 → Q (.inl (some (.int 1))) w) : Ev G mX3_isDigit [.int (nI m1)] w Q := by
  show Rn G mX3_isDigit 0 [(0, .int (nI m1))] [] w Q
  refine r_iload_n 0 1 0 rfl rfl rfl ?_
  refine r_bipush 1 3 rfl rfl db_48 ?_
  refine y_icmp_lt (a := m1) (b := 48) bd1 (by decide) 2 6 16 rfl rfl rfl (fun c1 => ?_) (fun c1 => ?_)
  · refine r_iconst 8 17 rfl rfl di_0 ?_
    exact r_iret 9 rfl rfl (by decide) (k2 c1)
  · refine r_iload_n 3 7 0 rfl rfl rfl ?_
    refine r_bipush 4 9 rfl rfl db_57 ?_
    refine y_icmp_gt (a := m1) (b := 57) (by omega) (by decide) 5 12 16 rfl rfl rfl (fun c2 => ?_) (fun c2 => ?_)
    · refine r_iconst 8 17 rfl rfl di_0 ?_
      exact r_iret 9 rfl rfl (by decide) (k3 c1 c2)
    · refine r_iconst 6 13 rfl rfl di_1 ?_
      refine r_goto 7 17 rfl rfl ?_
      exact r_iret 9 rfl rfl (by decide) (k4 c1 c2)
theorem e_X3_init {G : Gm} {κ : Nat → Nat} {φ : Nat → Option Nat} (hS : GS G κ φ) {w : Wd} {Q : Rs → Wd → Prop} {a1 : Nat} {a2 : Nat} (o1 : w.1 a1 = some (.inl (nX3, [.null, .int 0]))) (k2 : Q (.inl none) (wset w a1 (.inl (nX3, [.ref a2, .int 0])))) : Ev G mX3_init [.ref a1, .ref a2] w Q := by
  show Rn G mX3_init 0 [(0, .ref a1), (1, .ref a2)] [] w Q
  refine r_aload_n 0 1 0 rfl rfl rfl ?_
  refine r_objInit q232 q111 q112 1 4 rfl rfl (by decide) (Nat.le_of_ble_eq_true rfl) ?_
  refine r_aload_n 2 5 0 rfl rfl rfl ?_
  refine r_aload_n 3 6 1 rfl rfl rfl ?_
  refine r_putF (i := 0) fl_X3_9_X3 in_X3 q228 (ty0 := tyX3) tyX3_ok nmX3 4 9 rfl rfl o1 rfl rfl rfl rfl rfl (Nat.le_of_ble_eq_true rfl) ?_
  show Rn G mX3_init 9 [(0, .ref a1), (1, .ref a2)] [] (wset w a1 (.inl (nX3, [.ref a2, .int 0]))) _
  exact r_vret 5 rfl rfl k2
theorem e_J28_init {G : Gm} {κ : Nat → Nat} {φ : Nat → Option Nat} (hS : GS G κ φ) {w : Wd} {Q : Rs → Wd → Prop} {a1 : Nat} (k1 : Q (.inl none) w) : Ev G mJ28_init [.ref a1] w Q := by
  show Rn G mJ28_init 0 [(0, .ref a1)] [] w Q
  refine r_aload_n 0 1 0 rfl rfl rfl ?_
  refine r_objInit q1246 q111 q112 1 4 rfl rfl (by decide) (Nat.le_of_ble_eq_true rfl) ?_
  exact r_vret 2 rfl rfl k1
theorem e_X8_init {G : Gm} {κ : Nat → Nat} {φ : Nat → Option Nat} (hS : GS G κ φ) {w : Wd} {Q : Rs → Wd → Prop} {a1 : Nat} {a2 : Nat} {a3 : Nat} {a4 : Nat} (o1 : w.1 a1 = some (.inl (nX8, [.null, .null, .null]))) (k2 : Q (.inl none) (wset w a1 (.inl (nX8, [.ref a2, .ref a3, .ref a4])))) : Ev G mX8_init [.ref a1, .ref a2, .ref a3, .ref a4] w Q := by
  show Rn G mX8_init 0 [(0, .ref a1), (1, .ref a2), (2, .ref a3), (3, .ref a4)] [] w Q
  refine r_aload_n 0 1 0 rfl rfl rfl ?_
  refine r_callI lkI_X8_1 1 4 rfl rfl (by decide) [] rfl rfl (Nat.le_of_ble_eq_true rfl) (Nat.le_of_ble_eq_true rfl) (e_J28_init hS (k1 := ?_)) (fun _ _ h => h)
  show Rn G mX8_init 4 [(0, .ref a1), (1, .ref a2), (2, .ref a3), (3, .ref a4)] [] w _
  refine r_aload_n 2 5 0 rfl rfl rfl ?_
  refine r_aload_n 3 6 1 rfl rfl rfl ?_
  refine r_putF (i := 0) fl_X8_7_X8 in_X8 q1236 (ty0 := tyX8) tyX8_ok nmX8 4 9 rfl rfl o1 rfl rfl rfl rfl rfl (Nat.le_of_ble_eq_true rfl) ?_
  show Rn G mX8_init 9 [(0, .ref a1), (1, .ref a2), (2, .ref a3), (3, .ref a4)] [] (wset w a1 (.inl (nX8, [.ref a2, .null, .null]))) _
  refine r_aload_n 5 10 0 rfl rfl rfl ?_
  refine r_aload_n 6 11 2 rfl rfl rfl ?_
  refine r_putF (i := 1) fl_X8_13_X8 in_X8 q1236 (ty0 := tyX8) tyX8_ok nmX8 7 14 rfl rfl wset_s rfl rfl rfl rfl rfl (Nat.le_of_ble_eq_true rfl) ?_
  rw [wset_wset]
  show Rn G mX8_init 14 [(0, .ref a1), (1, .ref a2), (2, .ref a3), (3, .ref a4)] [] (wset w a1 (.inl (nX8, [.ref a2, .ref a3, .null]))) _
  refine r_aload_n 8 15 0 rfl rfl rfl ?_
  refine r_aload_n 9 16 3 rfl rfl rfl ?_
  refine r_putF (i := 2) fl_X8_17_X8 in_X8 q1236 (ty0 := tyX8) tyX8_ok nmX8 10 19 rfl rfl wset_s rfl rfl rfl rfl rfl (Nat.le_of_ble_eq_true rfl) ?_
  rw [wset_wset]
  show Rn G mX8_init 19 [(0, .ref a1), (1, .ref a2), (2, .ref a3), (3, .ref a4)] [] (wset w a1 (.inl (nX8, [.ref a2, .ref a3, .ref a4]))) _
  exact r_vret 11 rfl rfl k2
theorem e_X5_init {G : Gm} {κ : Nat → Nat} {φ : Nat → Option Nat} (hS : GS G κ φ) {w : Wd} {Q : Rs → Wd → Prop} {a1 : Nat} {x2 : Int32} (o1 : w.1 a1 = some (.inl (nX5, [.int 0, .null, .null, .null, .null, .null]))) (k2 : Q (.inl none) (wset w a1 (.inl (nX5, [.int x2, .null])))) : Ev G mX5_init [.ref a1, .int x2] w Q := by
  show Rn G mX5_init 0 [(0, .ref a1), (1, .int x2)] [] w Q
  refine r_aload_n 0 1 0 rfl rfl rfl ?_
  refine r_ldcS (tx := "wrong place") (a := κ 30) (hS 30).1 1 3 rfl rfl ?_
  refine r_excS (iB := 1) (iC := 2) (iS := 3) (iP := 4) (iM := 5) (names := []) (nI0 := 0) (Xi := "java/lang/Exception") rfl xw_X5 (hS 55) rfl rfl rfl rfl rfl ⟨⟨by decide, by decide, by decide, by decide⟩, by decide, by decide, by decide, by decide⟩ inE_X5 (ty0 := tyE5) tyE5_ok nmE5 (by decide +kernel) (fun _ h => by cases h) xchS q353 q354 q355 2 6 rfl rfl (by decide) (by decide) (Nat.le_of_ble_eq_true rfl) rfl o1 rfl ⟨by decide, by decide, by decide, by decide⟩ ?_
  show Rn G mX5_init 6 [(0, .ref a1), (1, .int x2)] [] (wset w a1 (.inl (nX5, [.int 0, .null]))) _
  refine r_aload_n 3 7 0 rfl rfl rfl ?_
  refine r_iload_n 4 8 1 rfl rfl rfl ?_
  refine r_putF (i := 0) fl_X5_9_X5 inE_X5 q311 (ty0 := tyE5) tyE5_ok nmE5 5 11 rfl rfl wset_s rfl rfl rfl rfl rfl (Nat.le_of_ble_eq_true rfl) ?_
  rw [wset_wset]
  show Rn G mX5_init 11 [(0, .ref a1), (1, .int x2)] [] (wset w a1 (.inl (nX5, [.int x2, .null]))) _
  exact r_vret 6 rfl rfl k2
theorem e_X1_need {G : Gm} {κ : Nat → Nat} {φ : Nat → Option Nat} (hS : GS G κ φ) {w : Wd} {Q : Rs → Wd → Prop} {x1 : Int32} (k1 : ¬ x1 = 0 → Q (.inl none) w) (hg : 18 ≤ w.2.2) (k2 : x1 = 0 → Q (.inr w.2.1) (wnew w (.inl (nJ12, [.null])) 6)) : Ev G mX1_need [.int x1] w Q := by
  show Rn G mX1_need 0 [(0, .int x1)] [] w Q
  refine r_iload_n 0 1 0 rfl rfl rfl ?_
  refine r_if_ne 1 4 12 rfl rfl rfl (fun c1 => ?_) (fun c1 => ?_)
  · exact r_vret 6 rfl rfl (k1 c1)
  · refine r_new (fs := [.null, .null, .null, .null, .null]) (ty := tyE) (T := TE) (C := RJ12) (N := 5) (ci := nJ12) (n := 6) 2 7 rfl rfl rfl inE_J12 tyE_ok q1717 q408 q74 rfl (by decide) (by show 12 + 6 ≤ w.2.2; omega) ?_
    show Rn G mX1_need 7 [(0, .int x1)] [.ref w.2.1] (wnew w (.inl (nJ12, [.null, .null, .null, .null, .null])) 6) _
    refine r_dup 3 8 rfl rfl rfl ?_
    refine r_exc0 (iB := 0) (iC := 1) (iS := 2) (iP := 3) (iM := 4) (names := exN) (nI0 := 0) rfl xw_J12 (hS 55) rfl rfl rfl rfl rfl ⟨⟨by decide, by decide, by decide, by decide⟩, by decide, by decide, by decide, by decide⟩ inE_J12 (ty0 := tyE) tyE_ok nmE (by decide +kernel) exN_fit xch_J12 q1718 q1719 q1720 4 11 rfl rfl (by decide) (by decide) (Nat.le_of_ble_eq_true rfl) wnew_s rfl ⟨by decide, by decide, by decide, by decide⟩ ?_
    refine z_wn ?_
    show Rn G mX1_need 11 [(0, .int x1)] [.ref w.2.1] (wnew w (.inl (nJ12, [.null])) 6) _
    exact r_athrow 5 rfl rfl (k2 c1)
theorem e_X3_want_2 {G : Gm} {κ : Nat → Nat} {φ : Nat → Option Nat} (hS : GS G κ φ) {w : Wd} {Q : Rs → Wd → Prop} {a1 : Nat} {x2 : Int32} {x3 : Int32} (k1 : ¬ x2 = 0 → Q (.inl none) w) (hg : 19 ≤ w.2.2) (k2 : x2 = 0 → Q (.inr w.2.1) (wset (wnew w (.inl (nX5, [.int 0, .null, .null, .null, .null, .null])) 7) w.2.1 (.inl (nX5, [.int x3, .null])))) : Ev G mX3_want_2 [.ref a1, .int x2, .int x3] w Q := by
  show Rn G mX3_want_2 0 [(0, .ref a1), (1, .int x2), (2, .int x3)] [] w Q
  refine r_iload_n 0 1 1 rfl rfl rfl ?_
  refine r_if_ne 1 4 13 rfl rfl rfl (fun c1 => ?_) (fun c1 => ?_)
  · exact r_vret 7 rfl rfl (k1 c1)
  · refine r_new (fs := [.int 0, .null, .null, .null, .null, .null]) (ty := tyE5) (T := TE5) (C := RX5) (N := 6) (ci := nX5) (n := 7) 2 7 rfl rfl rfl inE_X5 tyE5_ok q310 q311 q86 rfl (by decide) (by show 12 + 7 ≤ w.2.2; omega) ?_
    show Rn G mX3_want_2 7 [(0, .ref a1), (1, .int x2), (2, .int x3)] [.ref w.2.1] (wnew w (.inl (nX5, [.int 0, .null, .null, .null, .null, .null])) 7) _
    refine r_dup 3 8 rfl rfl rfl ?_
    refine r_iload_n 4 9 2 rfl rfl rfl ?_
    refine r_callI lkI_X3_38 5 12 rfl rfl (by decide) [.int x3] rfl rfl (Nat.le_of_ble_eq_true rfl) (Nat.le_of_ble_eq_true rfl) (e_X5_init hS (o1 := wnew_s) (k2 := ?_)) (fun _ _ h => h)
    show Rn G mX3_want_2 12 [(0, .ref a1), (1, .int x2), (2, .int x3)] [.ref w.2.1] (wset (wnew w (.inl (nX5, [.int 0, .null, .null, .null, .null, .null])) 7) w.2.1 (.inl (nX5, [.int x3, .null]))) _
    exact r_athrow 6 rfl rfl (k2 c1)
theorem e_X8_refers {G : Gm} {κ : Nat → Nat} {φ : Nat → Option Nat} (hS : GS G κ φ) {w : Wd} {Q : Rs → Wd → Prop} {a1 : Nat} {a2 : Nat} {a3 : Nat} {a4 : Nat} (o1 : Lk G w a1 (.inl (nX8, [.ref a2, .ref a3, .ref a4]))) (k2 : a2 = (κ 12) → Q (.inl (some (.int 1))) w) (k3 : ¬ a2 = (κ 12) → ¬ a2 = (κ 14) → Q (.inl (some (.int 0))) w) (k4 : ¬ a2 = (κ 12) → a2 = (κ 14) → Q (.inl (some (.int 1))) w) : Ev G mX8_refers [.ref a1] w Q := by
  show Rn G mX8_refers 0 [(0, .ref a1)] [] w Q
  refine r_aload_n 0 1 0 rfl rfl rfl ?_
  refine r_get (v := .ref a2) fl_X8_7_X8 1 4 rfl rfl o1 rfl ?_
  refine r_gets (v := .ref (κ 12)) (hS 12).1 q1407 2 7 rfl rfl ?_
  refine r_acmp_eq (rx := (some a2)) (ry := (some (κ 12))) 3 10 20 rfl rfl rfl rfl rfl (fun c1 => ?_) (fun c1 => ?_)
  · refine r_iconst 8 21 rfl rfl di_1 ?_
    refine r_goto 9 25 rfl rfl ?_
    exact r_iret 11 rfl rfl (by decide) (k2 (Option.some.inj c1))
  · refine r_aload_n 4 11 0 rfl rfl rfl ?_
    refine r_get (v := .ref a2) fl_X8_7_X8 5 14 rfl rfl o1 rfl ?_
    refine r_gets (v := .ref (κ 14)) (hS 14).1 q1408 6 17 rfl rfl ?_
    refine r_acmp_ne (rx := (some a2)) (ry := (some (κ 14))) 7 20 24 rfl rfl rfl rfl rfl (fun c2 => ?_) (fun c2 => ?_)
    · refine r_iconst 10 25 rfl rfl di_0 ?_
      exact r_iret 11 rfl rfl (by decide) (k3 (fun h => c1 (congrArg some h)) (fun h => c2 (congrArg some h)))
    · refine r_iconst 8 21 rfl rfl di_1 ?_
      refine r_goto 9 25 rfl rfl ?_
      exact r_iret 11 rfl rfl (by decide) (k4 (fun h => c1 (congrArg some h)) (Option.some.inj c2))
theorem e_X8_isText {G : Gm} {κ : Nat → Nat} {φ : Nat → Option Nat} (hS : GS G κ φ) {w : Wd} {Q : Rs → Wd → Prop} {a1 : Nat} {a2 : Nat} {a3 : Nat} {a4 : Nat} (o1 : Lk G w a1 (.inl (nX8, [.ref a2, .ref a3, .ref a4]))) (k2 : a2 = (κ 11) → Q (.inl (some (.int 1))) w) (k3 : ¬ a2 = (κ 11) → ¬ a2 = (κ 15) → Q (.inl (some (.int 0))) w) (k4 : ¬ a2 = (κ 11) → a2 = (κ 15) → Q (.inl (some (.int 1))) w) : Ev G mX8_isText [.ref a1] w Q := by
  show Rn G mX8_isText 0 [(0, .ref a1)] [] w Q
  refine r_aload_n 0 1 0 rfl rfl rfl ?_
  refine r_get (v := .ref a2) fl_X8_7_X8 1 4 rfl rfl o1 rfl ?_
  refine r_gets (v := .ref (κ 11)) (hS 11).1 q1807 2 7 rfl rfl ?_
  refine r_acmp_eq (rx := (some a2)) (ry := (some (κ 11))) 3 10 20 rfl rfl rfl rfl rfl (fun c1 => ?_) (fun c1 => ?_)
  · refine r_iconst 8 21 rfl rfl di_1 ?_
    refine r_goto 9 25 rfl rfl ?_
    exact r_iret 11 rfl rfl (by decide) (k2 (Option.some.inj c1))
  · refine r_aload_n 4 11 0 rfl rfl rfl ?_
    refine r_get (v := .ref a2) fl_X8_7_X8 5 14 rfl rfl o1 rfl ?_
    refine r_gets (v := .ref (κ 15)) (hS 15).1 q1808 6 17 rfl rfl ?_
    refine r_acmp_ne (rx := (some a2)) (ry := (some (κ 15))) 7 20 24 rfl rfl rfl rfl rfl (fun c2 => ?_) (fun c2 => ?_)
    · refine r_iconst 10 25 rfl rfl di_0 ?_
      exact r_iret 11 rfl rfl (by decide) (k3 (fun h => c1 (congrArg some h)) (fun h => c2 (congrArg some h)))
    · refine r_iconst 8 21 rfl rfl di_1 ?_
      refine r_goto 9 25 rfl rfl ?_
      exact r_iret 11 rfl rfl (by decide) (k4 (fun h => c1 (congrArg some h)) (Option.some.inj c2))
theorem e_X8_size {G : Gm} {κ : Nat → Nat} {φ : Nat → Option Nat} (hS : GS G κ φ) {w : Wd} {Q : Rs → Wd → Prop} {a1 : Nat} {a2 : Nat} {a3 : Nat} {a4 : Nat} {a5 : Nat} {x6 : Int32} {x7 : Int32} {n8 : Nat} {g9 : Nat → Nat} {n10 : Nat} {g11 : Nat → Int32} (o1 : Lk G w a1 (.inl (nX8, [.ref a2, .ref a3, .ref a4]))) (o2 : Lk G w a3 (.inl (nJ2, [.ref a5, .int 0, .int x6, .int x7]))) (o3 : Lk G w a5 (arB n8 g9)) (k4 : a2 = (κ 11) → Q (.inl (some (.int (nI n8)))) w) (o5 : Lk G w a4 (arI .int n10 g11)) (k6 : ¬ a2 = (κ 11) → ¬ a2 = (κ 15) → Q (.inl (some (.int (nI n10)))) w) (k7 : ¬ a2 = (κ 11) → a2 = (κ 15) → Q (.inl (some (.int (nI n8)))) w) : Ev G mX8_size [.ref a1] w Q := by
  show Rn G mX8_size 0 [(0, .ref a1)] [] w Q
  refine r_aload_n 0 1 0 rfl rfl rfl ?_
  refine r_callV lkV_X8_40_X8 (C := RX8) (TT := TX8) (NN := 3) rfl o1 1 4 rfl rfl (by decide) [] rfl rfl (Nat.le_of_ble_eq_true rfl) (Nat.le_of_ble_eq_true rfl) (e_X8_isText hS (o1 := o1) (k2 := fun z0_0 => ?_) (k3 := fun z0_0 => fun z0_1 => ?_) (k4 := fun z0_0 => fun z0_1 => ?_)) (fun _ _ h => h)
  · show Rn G mX8_size 4 [(0, .ref a1)] [.int 1] w _
    refine r_if_eq 2 7 17 rfl rfl rfl (fun c => absurd c (by decide)) (fun _ => ?_)
    refine r_aload_n 3 8 0 rfl rfl rfl ?_
    refine r_get (v := .ref a3) fl_X8_13_X8 4 11 rfl rfl o1 rfl ?_
    refine r_callV lkV_X8_44_J2 (C := RJ2) (TT := TJ2) (NN := 4) rfl o2 5 14 rfl rfl (by decide) [] rfl rfl (Nat.le_of_ble_eq_true rfl) (Nat.le_of_ble_eq_true rfl) (e_J2_length hS (o1 := o2) (o2 := o3) (k3 := ?_)) (fun _ _ h => h)
    show Rn G mX8_size 14 [(0, .ref a1)] [.int (nI n8)] w _
    refine r_goto 6 22 rfl rfl ?_
    exact r_iret 10 rfl rfl rfl (k4 z0_0)
  · show Rn G mX8_size 4 [(0, .ref a1)] [.int 0] w _
    refine r_if_eq 2 7 17 rfl rfl rfl (fun _ => ?_) (fun c => absurd c (by decide))
    refine r_aload_n 7 18 0 rfl rfl rfl ?_
    refine r_get (v := .ref a4) fl_X8_17_X8 8 21 rfl rfl o1 rfl ?_
    refine r_alen 9 22 rfl rfl o5 ?_
    exact r_iret 10 rfl rfl rfl (k6 z0_0 z0_1)
  · show Rn G mX8_size 4 [(0, .ref a1)] [.int 1] w _
    refine r_if_eq 2 7 17 rfl rfl rfl (fun c => absurd c (by decide)) (fun _ => ?_)
    refine r_aload_n 3 8 0 rfl rfl rfl ?_
    refine r_get (v := .ref a3) fl_X8_13_X8 4 11 rfl rfl o1 rfl ?_
    refine r_callV lkV_X8_44_J2 (C := RJ2) (TT := TJ2) (NN := 4) rfl o2 5 14 rfl rfl (by decide) [] rfl rfl (Nat.le_of_ble_eq_true rfl) (Nat.le_of_ble_eq_true rfl) (e_J2_length hS (o1 := o2) (o2 := o3) (k3 := ?_)) (fun _ _ h => h)
    show Rn G mX8_size 14 [(0, .ref a1)] [.int (nI n8)] w _
    refine r_goto 6 22 rfl rfl ?_
    exact r_iret 10 rfl rfl rfl (k7 z0_0 z0_1)
theorem e_X8_item {G : Gm} {κ : Nat → Nat} {φ : Nat → Option Nat} (hS : GS G κ φ) {w : Wd} {Q : Rs → Wd → Prop} {a1 : Nat} {m2 : Nat} {a3 : Nat} {a4 : Nat} {a5 : Nat} {a6 : Nat} {x7 : Int32} {x8 : Int32} {n9 : Nat} {g10 : Nat → Nat} {n11 : Nat} {g12 : Nat → Int32} (o1 : Lk G w a1 (.inl (nX8, [.ref a3, .ref a4, .ref a5]))) (o2 : Lk G w a4 (.inl (nJ2, [.ref a6, .int 0, .int x7, .int x8]))) (o3 : Lk G w a6 (arB n9 g10)) (b4 : a3 = (κ 11) → m2 < 2 ^ 31) (b5 : a3 = (κ 11) → n9 < 2 ^ 31) (f6 : a3 = (κ 11) → m2 < n9) (q7 : a3 = (κ 11) → (g10 m2) < 128) (k8 : a3 = (κ 11) → Q (.inl (some (.int (nI (g10 m2))))) w) (o9 : Lk G w a5 (arI .int n11 g12)) (b10 : ¬ a3 = (κ 11) → ¬ a3 = (κ 15) → m2 < n11) (bd11 : n11 < 2 ^ 31) (k12 : ¬ a3 = (κ 11) → ¬ a3 = (κ 15) → Q (.inl (some (.int (g12 m2)))) w) (b13 : ¬ a3 = (κ 11) → a3 = (κ 15) → m2 < 2 ^ 31) (b14 : ¬ a3 = (κ 11) → a3 = (κ 15) → n9 < 2 ^ 31) (f15 : ¬ a3 = (κ 11) → a3 = (κ 15) → m2 < n9) (q16 : ¬ a3 = (κ 11) → a3 = (κ 15) → (g10 m2) < 128) (k17 : ¬ a3 = (κ 11) → a3 = (κ 15) → Q (.inl (some (.int (nI (g10 m2))))) w) : Ev G mX8_item [.ref a1, .int (nI m2)] w Q := by
  show Rn G mX8_item 0 [(0, .ref a1), (1, .int (nI m2))] [] w Q
  refine r_aload_n 0 1 0 rfl rfl rfl ?_
  refine r_callV lkV_X8_40_X8 (C := RX8) (TT := TX8) (NN := 3) rfl o1 1 4 rfl rfl (by decide) [] rfl rfl (Nat.le_of_ble_eq_true rfl) (Nat.le_of_ble_eq_true rfl) (e_X8_isText hS (o1 := o1) (k2 := fun z0_0 => ?_) (k3 := fun z0_0 => fun z0_1 => ?_) (k4 := fun z0_0 => fun z0_1 => ?_)) (fun _ _ h => h)
  · show Rn G mX8_item 4 [(0, .ref a1), (1, .int (nI m2))] [.int 1] w _
    refine r_if_eq 2 7 18 rfl rfl rfl (fun c => absurd c (by decide)) (fun _ => ?_)
    refine r_aload_n 3 8 0 rfl rfl rfl ?_
    refine r_get (v := .ref a4) fl_X8_13_X8 4 11 rfl rfl o1 rfl ?_
    refine r_iload_n 5 12 1 rfl rfl rfl ?_
    refine r_callV lkV_X8_50_J2 (C := RJ2) (TT := TJ2) (NN := 4) rfl o2 6 15 rfl rfl (by decide) [.int (nI m2)] rfl rfl (Nat.le_of_ble_eq_true rfl) (Nat.le_of_ble_eq_true rfl) (e_J2_charAt hS (m2 := m2) (o1 := o2) (o2 := o3) (b3 := (b4 z0_0)) (b4 := (b5 z0_0)) (f5 := (f6 z0_0)) (q6 := (q7 z0_0)) (k7 := ?_)) (fun _ _ h => h)
    show Rn G mX8_item 15 [(0, .ref a1), (1, .int (nI m2))] [.int (nI (g10 m2))] w _
    refine r_goto 7 24 rfl rfl ?_
    exact r_iret 12 rfl rfl rfl (k8 z0_0)
  · show Rn G mX8_item 4 [(0, .ref a1), (1, .int (nI m2))] [.int 0] w _
    refine r_if_eq 2 7 18 rfl rfl rfl (fun _ => ?_) (fun c => absurd c (by decide))
    refine r_aload_n 8 19 0 rfl rfl rfl ?_
    refine r_get (v := .ref a5) fl_X8_17_X8 9 22 rfl rfl o1 rfl ?_
    refine r_iload_n 10 23 1 rfl rfl rfl ?_
    refine y_iald (i := m2) 11 24 rfl rfl o9 (b10 z0_0 z0_1) bd11 ?_
    exact r_iret 12 rfl rfl rfl (k12 z0_0 z0_1)
  · show Rn G mX8_item 4 [(0, .ref a1), (1, .int (nI m2))] [.int 1] w _
    refine r_if_eq 2 7 18 rfl rfl rfl (fun c => absurd c (by decide)) (fun _ => ?_)
    refine r_aload_n 3 8 0 rfl rfl rfl ?_
    refine r_get (v := .ref a4) fl_X8_13_X8 4 11 rfl rfl o1 rfl ?_
    refine r_iload_n 5 12 1 rfl rfl rfl ?_
    refine r_callV lkV_X8_50_J2 (C := RJ2) (TT := TJ2) (NN := 4) rfl o2 6 15 rfl rfl (by decide) [.int (nI m2)] rfl rfl (Nat.le_of_ble_eq_true rfl) (Nat.le_of_ble_eq_true rfl) (e_J2_charAt hS (m2 := m2) (o1 := o2) (o2 := o3) (b3 := (b13 z0_0 z0_1)) (b4 := (b14 z0_0 z0_1)) (f5 := (f15 z0_0 z0_1)) (q6 := (q16 z0_0 z0_1)) (k7 := ?_)) (fun _ _ h => h)
    show Rn G mX8_item 15 [(0, .ref a1), (1, .int (nI m2))] [.int (nI (g10 m2))] w _
    refine r_goto 7 24 rfl rfl ?_
    exact r_iret 12 rfl rfl rfl (k17 z0_0 z0_1)
theorem e_X8_of {G : Gm} {κ : Nat → Nat} {φ : Nat → Option Nat} (hS : GS G κ φ) {w : Wd} {Q : Rs → Wd → Prop} {a1 : Nat} {x2 : Int32} (hg : 28 ≤ w.2.2) (k1 : Q (.inl (some (.ref w.2.1))) (wset (wnew (wnew w (.inl (nX8, [.null, .null, .null])) 3) (arI .int 1 (upF (fun _ => 0) 0 x2)) 1) w.2.1 (.inl (nX8, [.ref a1, .ref (κ 20), .ref (w.2.1 + 1)])))) : Ev G mX8_of [.ref a1, .int x2] w Q := by
  show Rn G mX8_of 0 [(0, .ref a1), (1, .int x2)] [] w Q
  refine r_new (fs := [.null, .null, .null]) (ty := tyX8) (T := TX8) (C := RX8) (N := 3) (ci := nX8) (n := 3) 0 3 rfl rfl rfl in_X8 tyX8_ok q1273 q1236 q99 rfl (by decide) (by show 12 + 3 ≤ w.2.2; omega) ?_
  show Rn G mX8_of 3 [(0, .ref a1), (1, .int x2)] [.ref w.2.1] (wnew w (.inl (nX8, [.null, .null, .null])) 3) _
  refine r_dup 1 4 rfl rfl rfl ?_
  refine r_aload_n 2 5 0 rfl rfl rfl ?_
  refine r_ldcS (tx := "") (a := κ 20) (hS 20).1 3 7 rfl rfl ?_
  refine r_iconst 4 8 rfl rfl di_1 ?_
  refine y_newI (n := 1) 5 10 rfl rfl (by decide) (by show 12 + 1 ≤ w.2.2 - (12 + 3); omega) ?_
  show Rn G mX8_of 10 [(0, .ref a1), (1, .int x2)] [.ref (w.2.1 + 1), .ref (κ 20), .ref a1, .ref w.2.1, .ref w.2.1] (wnew (wnew w (.inl (nX8, [.null, .null, .null])) 3) (arI .int 1 (fun _ => 0)) 1) _
  refine r_dup 6 11 rfl rfl rfl ?_
  refine r_iconst 7 12 rfl rfl di_0 ?_
  refine r_iload_n 8 13 1 rfl rfl rfl ?_
  refine y_iast (i := 0) 9 14 rfl rfl wnew_s (by decide) (by decide) ?_
  refine z_wn ?_
  show Rn G mX8_of 14 [(0, .ref a1), (1, .int x2)] [.ref (w.2.1 + 1), .ref (κ 20), .ref a1, .ref w.2.1, .ref w.2.1] (wnew (wnew w (.inl (nX8, [.null, .null, .null])) 3) (arI .int 1 (upF (fun _ => 0) 0 x2)) 1) _
  refine r_callI lkI_X8_23 10 17 rfl rfl (by decide) [.ref a1, .ref (κ 20), .ref (w.2.1 + 1)] rfl rfl (Nat.le_of_ble_eq_true rfl) (Nat.le_of_ble_eq_true rfl) (e_X8_init hS (o1 := (wnew_n wnew_s (by show w.2.1 < (w.2.1 + 1); omega))) (k2 := ?_)) (fun _ _ h => h)
  show Rn G mX8_of 17 [(0, .ref a1), (1, .int x2)] [.ref w.2.1] (wset (wnew (wnew w (.inl (nX8, [.null, .null, .null])) 3) (arI .int 1 (upF (fun _ => 0) 0 x2)) 1) w.2.1 (.inl (nX8, [.ref a1, .ref (κ 20), .ref (w.2.1 + 1)]))) _
  exact r_aret 11 rfl rfl (Or.inl ⟨_, rfl⟩) (Or.inr ⟨_, rfl⟩) k1
theorem e_X7_init {G : Gm} {κ : Nat → Nat} {φ : Nat → Option Nat} (hS : GS G κ φ) {w : Wd} {Q : Rs → Wd → Prop} {a1 : Nat} {m2 : Nat} {a3 : Nat} (hg : 15 ≤ w.2.2) (o1 : w.1 a1 = some (.inl (nX7, [.int 0, .null, .null]))) (k2 : Q (.inl none) (wset (wset (wnew w (.inl (nJ6, [.int 0, .null, .int 0])) 3) w.2.1 (.inl (nJ6, [.int 0, .ref (κ 1), .int 0]))) a1 (.inl (nX7, [.int (nI m2), .ref a3, .ref w.2.1])))) : Ev G mX7_init [.ref a1, .int (nI m2), .ref a3] w Q := by
  show Rn G mX7_init 0 [(0, .ref a1), (1, .int (nI m2)), (2, .ref a3)] [] w Q
  refine Rn.wok fun hwk => ?_
  refine r_aload_n 0 1 0 rfl rfl rfl ?_
  refine r_objInit q1191 q111 q112 1 4 rfl rfl (by decide) (Nat.le_of_ble_eq_true rfl) ?_
  refine r_aload_n 2 5 0 rfl rfl rfl ?_
  refine r_new (fs := [.int 0, .null, .int 0]) (ty := tyJ6) (T := TJ6) (C := RJ6) (N := 3) (ci := nJ6) (n := 3) 3 8 rfl rfl rfl in_J6 tyJ6_ok q1192 q147 q67 rfl (by decide) (by show 12 + 3 ≤ w.2.2; omega) ?_
  show Rn G mX7_init 8 [(0, .ref a1), (1, .int (nI m2)), (2, .ref a3)] [.ref w.2.1, .ref a1] (wnew w (.inl (nJ6, [.int 0, .null, .int 0])) 3) _
  refine r_dup 4 9 rfl rfl rfl ?_
  refine r_callI lkI_X7_9 5 12 rfl rfl (by decide) [] rfl rfl (Nat.le_of_ble_eq_true rfl) (Nat.le_of_ble_eq_true rfl) (e_J6_init hS (o1 := wnew_s) (k2 := ?_)) (fun _ _ h => h)
  show Rn G mX7_init 12 [(0, .ref a1), (1, .int (nI m2)), (2, .ref a3)] [.ref w.2.1, .ref a1] (wset (wnew w (.inl (nJ6, [.int 0, .null, .int 0])) 3) w.2.1 (.inl (nJ6, [.int 0, .ref (κ 1), .int 0]))) _
  refine r_putF (i := 2) fl_X7_10_X7 in_X7 q1187 (ty0 := tyX7) tyX7_ok nmX7 6 15 rfl rfl (wset_n (wnew_n o1 (by have := (hwk.1 _ _ o1).2; show a1 < w.2.1; omega)) (Nat.ne_of_lt (show a1 < w.2.1 from (by have := (hwk.1 _ _ o1).2; omega)))) rfl rfl rfl rfl rfl (Nat.le_of_ble_eq_true rfl) ?_
  show Rn G mX7_init 15 [(0, .ref a1), (1, .int (nI m2)), (2, .ref a3)] [] (wset (wset (wnew w (.inl (nJ6, [.int 0, .null, .int 0])) 3) w.2.1 (.inl (nJ6, [.int 0, .ref (κ 1), .int 0]))) a1 (.inl (nX7, [.int 0, .null, .ref w.2.1]))) _
  refine r_aload_n 7 16 0 rfl rfl rfl ?_
  refine r_iload_n 8 17 1 rfl rfl rfl ?_
  refine r_putF (i := 0) fl_X7_16_X7 in_X7 q1187 (ty0 := tyX7) tyX7_ok nmX7 9 20 rfl rfl wset_s rfl rfl rfl rfl rfl (Nat.le_of_ble_eq_true rfl) ?_
  rw [wset_wset]
  show Rn G mX7_init 20 [(0, .ref a1), (1, .int (nI m2)), (2, .ref a3)] [] (wset (wset (wnew w (.inl (nJ6, [.int 0, .null, .int 0])) 3) w.2.1 (.inl (nJ6, [.int 0, .ref (κ 1), .int 0]))) a1 (.inl (nX7, [.int (nI m2), .null, .ref w.2.1]))) _
  refine r_aload_n 10 21 0 rfl rfl rfl ?_
  refine r_aload_n 11 22 2 rfl rfl rfl ?_
  refine r_putF (i := 1) fl_X7_20_X7 in_X7 q1187 (ty0 := tyX7) tyX7_ok nmX7 12 25 rfl rfl wset_s rfl rfl rfl rfl rfl (Nat.le_of_ble_eq_true rfl) ?_
  rw [wset_wset]
  show Rn G mX7_init 25 [(0, .ref a1), (1, .int (nI m2)), (2, .ref a3)] [] (wset (wset (wnew w (.inl (nJ6, [.int 0, .null, .int 0])) 3) w.2.1 (.inl (nJ6, [.int 0, .ref (κ 1), .int 0]))) a1 (.inl (nX7, [.int (nI m2), .ref a3, .ref w.2.1]))) _
  exact r_vret 13 rfl rfl k2
theorem e_X4_init {G : Gm} {κ : Nat → Nat} {φ : Nat → Option Nat} (hS : GS G κ φ) {w : Wd} {Q : Rs → Wd → Prop} {a1 : Nat} {a2 : Nat} (hg : 43 ≤ w.2.2) (o1 : w.1 a1 = some (.inl (nX4, [.null, .null, .null]))) (k2 : Q (.inl none) (wset (wset (wnew (wset (wnew (wset (wset (wnew w (.inl (nJ6, [.int 0, .null, .int 0])) 3) w.2.1 (.inl (nJ6, [.int 0, .ref (κ 1), .int 0]))) a1 (.inl (nX4, [.null, .ref w.2.1, .null]))) (.inl (nJ21, [.null, .int 0, .int 0])) 3) (w.2.1 + 1) (.inl (nJ21, [.null, .int 0, .int 0]))) (arL 1 (fun _ => 0)) 1) (w.2.1 + 1) (.inl (nJ21, [.ref (w.2.1 + 2), .int 0, .int 0]))) a1 (.inl (nX4, [.ref a2, .ref w.2.1, .ref (w.2.1 + 1)])))) : Ev G mX4_init [.ref a1, .ref a2] w Q := by
  show Rn G mX4_init 0 [(0, .ref a1), (1, .ref a2)] [] w Q
  refine Rn.wok fun hwk => ?_
  refine r_aload_n 0 1 0 rfl rfl rfl ?_
  refine r_objInit q612 q111 q112 1 4 rfl rfl (by decide) (Nat.le_of_ble_eq_true rfl) ?_
  refine r_aload_n 2 5 0 rfl rfl rfl ?_
  refine r_new (fs := [.int 0, .null, .int 0]) (ty := tyJ6) (T := TJ6) (C := RJ6) (N := 3) (ci := nJ6) (n := 3) 3 8 rfl rfl rfl in_J6 tyJ6_ok q613 q147 q67 rfl (by decide) (by show 12 + 3 ≤ w.2.2; omega) ?_
  show Rn G mX4_init 8 [(0, .ref a1), (1, .ref a2)] [.ref w.2.1, .ref a1] (wnew w (.inl (nJ6, [.int 0, .null, .int 0])) 3) _
  refine r_dup 4 9 rfl rfl rfl ?_
  refine r_callI lkI_X4_9 5 12 rfl rfl (by decide) [] rfl rfl (Nat.le_of_ble_eq_true rfl) (Nat.le_of_ble_eq_true rfl) (e_J6_init hS (o1 := wnew_s) (k2 := ?_)) (fun _ _ h => h)
  show Rn G mX4_init 12 [(0, .ref a1), (1, .ref a2)] [.ref w.2.1, .ref a1] (wset (wnew w (.inl (nJ6, [.int 0, .null, .int 0])) 3) w.2.1 (.inl (nJ6, [.int 0, .ref (κ 1), .int 0]))) _
  refine r_putF (i := 1) fl_X4_10_X4 in_X4 q294 (ty0 := tyX4) tyX4_ok nmX4 6 15 rfl rfl (wset_n (wnew_n o1 (by have := (hwk.1 _ _ o1).2; show a1 < w.2.1; omega)) (Nat.ne_of_lt (show a1 < w.2.1 from (by have := (hwk.1 _ _ o1).2; omega)))) rfl rfl rfl rfl rfl (Nat.le_of_ble_eq_true rfl) ?_
  show Rn G mX4_init 15 [(0, .ref a1), (1, .ref a2)] [] (wset (wset (wnew w (.inl (nJ6, [.int 0, .null, .int 0])) 3) w.2.1 (.inl (nJ6, [.int 0, .ref (κ 1), .int 0]))) a1 (.inl (nX4, [.null, .ref w.2.1, .null]))) _
  refine r_aload_n 7 16 0 rfl rfl rfl ?_
  refine r_new (fs := [.null, .int 0, .int 0]) (ty := tyJ21) (T := TJ21) (C := RJ21) (N := 3) (ci := nJ21) (n := 3) 8 19 rfl rfl rfl in_J21 tyJ21_ok q615 q616 q87 rfl (by decide) (by show 12 + 3 ≤ w.2.2 - (12 + 3); omega) ?_
  show Rn G mX4_init 19 [(0, .ref a1), (1, .ref a2)] [.ref (w.2.1 + 1), .ref a1] (wnew (wset (wset (wnew w (.inl (nJ6, [.int 0, .null, .int 0])) 3) w.2.1 (.inl (nJ6, [.int 0, .ref (κ 1), .int 0]))) a1 (.inl (nX4, [.null, .ref w.2.1, .null]))) (.inl (nJ21, [.null, .int 0, .int 0])) 3) _
  refine r_dup 9 20 rfl rfl rfl ?_
  refine r_callI lkI_X4_18 10 23 rfl rfl (by decide) [] rfl rfl (Nat.le_of_ble_eq_true rfl) (Nat.le_of_ble_eq_true rfl) (e_J21_init hS (o1 := wnew_s) (hg := by show 13 ≤ w.2.2 - (12 + 3) - (12 + 3); omega) (k2 := ?_)) (fun _ _ h => h)
  show Rn G mX4_init 23 [(0, .ref a1), (1, .ref a2)] [.ref (w.2.1 + 1), .ref a1] (wset (wnew (wset (wnew (wset (wset (wnew w (.inl (nJ6, [.int 0, .null, .int 0])) 3) w.2.1 (.inl (nJ6, [.int 0, .ref (κ 1), .int 0]))) a1 (.inl (nX4, [.null, .ref w.2.1, .null]))) (.inl (nJ21, [.null, .int 0, .int 0])) 3) (w.2.1 + 1) (.inl (nJ21, [.null, .int 0, .int 0]))) (arL 1 (fun _ => 0)) 1) (w.2.1 + 1) (.inl (nJ21, [.ref (w.2.1 + 2), .int 0, .int 0]))) _
  refine r_putF (i := 2) fl_X4_19_X4 in_X4 q294 (ty0 := tyX4) tyX4_ok nmX4 11 26 rfl rfl (wset_n (wnew_n (wset_n (wnew_n wset_s (by have := (hwk.1 _ _ o1).2; show a1 < (w.2.1 + 1); omega)) (Nat.ne_of_lt (show a1 < (w.2.1 + 1) from (by have := (hwk.1 _ _ o1).2; omega)))) (by have := (hwk.1 _ _ o1).2; show a1 < (w.2.1 + 2); omega)) (Nat.ne_of_lt (show a1 < (w.2.1 + 1) from (by have := (hwk.1 _ _ o1).2; omega)))) rfl rfl rfl rfl rfl (Nat.le_of_ble_eq_true rfl) ?_
  show Rn G mX4_init 26 [(0, .ref a1), (1, .ref a2)] [] (wset (wset (wnew (wset (wnew (wset (wset (wnew w (.inl (nJ6, [.int 0, .null, .int 0])) 3) w.2.1 (.inl (nJ6, [.int 0, .ref (κ 1), .int 0]))) a1 (.inl (nX4, [.null, .ref w.2.1, .null]))) (.inl (nJ21, [.null, .int 0, .int 0])) 3) (w.2.1 + 1) (.inl (nJ21, [.null, .int 0, .int 0]))) (arL 1 (fun _ => 0)) 1) (w.2.1 + 1) (.inl (nJ21, [.ref (w.2.1 + 2), .int 0, .int 0]))) a1 (.inl (nX4, [.null, .ref w.2.1, .ref (w.2.1 + 1)]))) _
  refine r_aload_n 12 27 0 rfl rfl rfl ?_
  refine r_aload_n 13 28 1 rfl rfl rfl ?_
  refine r_putF (i := 0) fl_X4_23_X4 in_X4 q294 (ty0 := tyX4) tyX4_ok nmX4 14 31 rfl rfl wset_s rfl rfl rfl rfl rfl (Nat.le_of_ble_eq_true rfl) ?_
  rw [wset_wset]
  show Rn G mX4_init 31 [(0, .ref a1), (1, .ref a2)] [] (wset (wset (wnew (wset (wnew (wset (wset (wnew w (.inl (nJ6, [.int 0, .null, .int 0])) 3) w.2.1 (.inl (nJ6, [.int 0, .ref (κ 1), .int 0]))) a1 (.inl (nX4, [.null, .ref w.2.1, .null]))) (.inl (nJ21, [.null, .int 0, .int 0])) 3) (w.2.1 + 1) (.inl (nJ21, [.null, .int 0, .int 0]))) (arL 1 (fun _ => 0)) 1) (w.2.1 + 1) (.inl (nJ21, [.ref (w.2.1 + 2), .int 0, .int 0]))) a1 (.inl (nX4, [.ref a2, .ref w.2.1, .ref (w.2.1 + 1)]))) _
  exact r_vret 15 rfl rfl k2
theorem e_X4_size {G : Gm} {κ : Nat → Nat} {φ : Nat → Option Nat} (hS : GS G κ φ) {w : Wd} {Q : Rs → Wd → Prop} {a1 : Nat} {a2 : Nat} {a3 : Nat} {a4 : Nat} {x5 : Int32} {a6 : Nat} {m7 : Nat} (o1 : Lk G w a1 (.inl (nX4, [.ref a2, .ref a3, .ref a4]))) (o2 : Lk G w a3 (.inl (nJ6, [.int x5, .ref a6, .int (nI m7)]))) (k3 : Q (.inl (some (.int (nI m7)))) w) : Ev G mX4_size [.ref a1] w Q := by
  show Rn G mX4_size 0 [(0, .ref a1)] [] w Q
  refine r_aload_n 0 1 0 rfl rfl rfl ?_
  refine r_get (v := .ref a3) fl_X4_10_X4 1 4 rfl rfl o1 rfl ?_
  refine r_callV lkV_X4_27_J6 (C := RJ6) (TT := TJ6) (NN := 3) rfl o2 2 7 rfl rfl (by decide) [] rfl rfl (Nat.le_of_ble_eq_true rfl) (Nat.le_of_ble_eq_true rfl) (e_J6_size hS (m4 := m7) (o1 := o2) (k2 := ?_)) (fun _ _ h => h)
  show Rn G mX4_size 7 [(0, .ref a1)] [.int (nI m7)] w _
  exact r_iret 3 rfl rfl rfl k3
theorem e_X6_values {G : Gm} {κ : Nat → Nat} {φ : Nat → Option Nat} (hS : GS G κ φ) {w : Wd} {Q : Rs → Wd → Prop} (hg : 19 ≤ w.2.2) (k1 : Q (.inl (some (.ref w.2.1))) (wnew w (arR "ExchangeText$Sort" 7 (fun j => some (κ (10 + j)))) 7)) : Ev G mX6_values [] w Q := by
  show Rn G mX6_values 0 [] [] w Q
  refine r_gets (v := .ref (κ 5)) (hS 5).1 q830 0 3 rfl rfl ?_
  refine r_clone 1 6 rfl rfl q832 q833 q834 q835 (by decide) (fun U c h => va_nmO h (by decide)) ((hS 5).2 w) (Or.inr (hS 59)) (fun i _ => z_fit) (by decide) (Nat.le_of_ble_eq_true rfl) (by show 12 + 7 ≤ w.2.2; omega) ?_
  show Rn G mX6_values 6 [] [.ref w.2.1] (wnew w (arR "ExchangeText$Sort" 7 (fun j => some (κ (10 + j)))) 7) _
  refine x_castA (C := "ExchangeText$Sort") (by decide +kernel) q837 (by decide) 2 9 rfl rfl (Or.inl wnew_s) ?_
  exact r_aret 3 rfl rfl (Or.inr ⟨_, rfl⟩) (Or.inr ⟨_, rfl⟩) k1
theorem e_X3_skip {G : Gm} {κ : Nat → Nat} {φ : Nat → Option Nat} (hS : GS G κ φ) {w : Wd} {Q : Rs → Wd → Prop} {a1 : Nat} {a2 : Nat} {m3 : Nat} {a4 : Nat} {x5 : Int32} {m6 : Nat} {n7 : Nat} {g8 : Nat → Nat} (o1 : w.1 a1 = some (.inl (nX3, [.ref a2, .int (nI m3)]))) (o2 : Lk G w a2 (.inl (nJ1, [.ref a4, .int 0, .int x5, .int (nI m6)]))) (bd3 : m3 < 2 ^ 31) (bd4 : m6 < 2 ^ 31) (k5 : m6 ≤ m3 → Q (.inl none) w) (o6 : Lk G w a4 (arB n7 g8)) (b7 : ¬ m6 ≤ m3 → n7 < 2 ^ 31) (f8 : ¬ m6 ≤ m3 → ¬ n7 < m6) (q9 : ¬ m6 ≤ m3 → (g8 m3) < 128) (bd10 : (g8 m3) < 2 ^ 31) (k11 : ¬ m6 ≤ m3 → ¬ (g8 m3) = 32 → Q (.inl none) w) (k12 : ¬ m6 ≤ m3 → (g8 m3) = 32 → Rn G mX3_skip 0 [(0, .ref a1)] [] (wset w a1 (.inl (nX3, [.ref a2, .int (nI (m3 + 1))]))) Q) : Ev G mX3_skip [.ref a1] w Q := by
  show Rn G mX3_skip 0 [(0, .ref a1)] [] w Q
  refine r_aload_n 0 1 0 rfl rfl rfl ?_
  refine r_get (v := .int (nI m3)) fl_X3_15_X3 1 4 rfl rfl (Or.inl o1) rfl ?_
  refine r_aload_n 2 5 0 rfl rfl rfl ?_
  refine r_get (v := .ref a2) fl_X3_9_X3 3 8 rfl rfl (Or.inl o1) rfl ?_
  refine r_callV lkV_X3_19_J1 (C := RJ1) (TT := TJ1) (NN := 4) rfl o2 4 11 rfl rfl (by decide) [] rfl rfl (Nat.le_of_ble_eq_true rfl) (Nat.le_of_ble_eq_true rfl) (e_J1_length hS (m4 := m6) (o1 := o2) (k2 := ?_)) (fun _ _ h => h)
  show Rn G mX3_skip 11 [(0, .ref a1)] [.int (nI m6), .int (nI m3)] w _
  refine y_icmp_ge (a := m3) (b := m6) bd3 bd4 5 14 43 rfl rfl rfl (fun c1 => ?_) (fun c1 => ?_)
  · exact r_vret 20 rfl rfl (k5 c1)
  · refine r_aload_n 6 15 0 rfl rfl rfl ?_
    refine r_get (v := .ref a2) fl_X3_9_X3 7 18 rfl rfl (Or.inl o1) rfl ?_
    refine r_aload_n 8 19 0 rfl rfl rfl ?_
    refine r_get (v := .int (nI m3)) fl_X3_15_X3 9 22 rfl rfl (Or.inl o1) rfl ?_
    refine r_callV lkV_X3_25_J1 (C := RJ1) (TT := TJ1) (NN := 4) rfl o2 10 25 rfl rfl (by decide) [.int (nI m3)] rfl rfl (Nat.le_of_ble_eq_true rfl) (Nat.le_of_ble_eq_true rfl) (e_J1_charAt hS (m5 := m6) (m2 := m3) (o1 := o2) (o2 := o6) (b3 := (by omega)) (b4 := (b7 c1)) (f5 := (f8 c1)) (b6 := (by omega)) (f7 := (by omega)) (q8 := (q9 c1)) (k9 := ?_)) (fun _ _ h => h)
    show Rn G mX3_skip 25 [(0, .ref a1)] [.int (nI (g8 m3))] w _
    refine r_bipush 11 27 rfl rfl db_32 ?_
    refine y_icmp_ne (a := (g8 m3)) (b := 32) bd10 (by decide) 12 30 43 rfl rfl rfl (fun c2 => ?_) (fun c2 => ?_)
    · exact r_vret 20 rfl rfl (k11 c1 c2)
    · refine r_aload_n 13 31 0 rfl rfl rfl ?_
      refine r_dup 14 32 rfl rfl rfl ?_
      refine r_get (v := .int (nI m3)) fl_X3_15_X3 15 35 rfl rfl (Or.inl o1) rfl ?_
      refine r_iconst 16 36 rfl rfl di_1 ?_
      refine r_iadd 17 37 rfl rfl ?_
      refine x_eq (y := (nI (m3 + 1))) (nI_add _ _) ?_
      refine r_put (i := 1) fl_X3_15_X3 in_X3 q228 (ty0 := tyX3) tyX3_ok nmX3 18 40 rfl rfl o1 rfl rfl rfl (Nat.le_of_ble_eq_true rfl) ?_
      show Rn G mX3_skip 40 [(0, .ref a1)] [] (wset w a1 (.inl (nX3, [.ref a2, .int (nI (m3 + 1))]))) _
      refine r_goto 19 0 rfl rfl ?_
      exact (k12 c1 c2)
theorem e_X3_here {G : Gm} {κ : Nat → Nat} {φ : Nat → Option Nat} (hS : GS G κ φ) {w : Wd} {Q : Rs → Wd → Prop} {a1 : Nat} {a2 : Nat} {m3 : Nat} (o1 : Lk G w a1 (.inl (nX3, [.ref a2, .int (nI m3)]))) {Q2 : Rs → Wd → Prop} (e2 : Ev G mX3_skip [.ref a1] w Q2) (k2 : ∀ r w', Q2 r w' → Af G mX3_here 1 4 [(0, .ref a1)] [] r w' Q) : Ev G mX3_here [.ref a1] w Q := by
  show Rn G mX3_here 0 [(0, .ref a1)] [] w Q
  refine r_aload_n 0 1 0 rfl rfl rfl ?_
  exact r_callV lkV_X3_29_X3 (C := RX3) (TT := TX3) (NN := 2) rfl o1 1 4 rfl rfl (by decide) [] rfl rfl (Nat.le_of_ble_eq_true rfl) (Nat.le_of_ble_eq_true rfl) e2 (fun r w' h => Af.sub [0] rfl (k2 r w' h))
theorem e_X3_here_4 {G : Gm} {κ : Nat → Nat} {φ : Nat → Option Nat} (hS : GS G κ φ) {w : Wd} {Q : Rs → Wd → Prop} {a1 : Nat} {a2 : Nat} {m3 : Nat} {a4 : Nat} {x5 : Int32} {m6 : Nat} {n7 : Nat} {g8 : Nat → Nat} (o1 : Lk G w a1 (.inl (nX3, [.ref a2, .int (nI m3)]))) (o2 : Lk G w a2 (.inl (nJ1, [.ref a4, .int 0, .int x5, .int (nI m6)]))) (bd3 : m3 < 2 ^ 31) (bd4 : m6 < 2 ^ 31) (k5 : m6 ≤ m3 → Q (.inl (some (.int 0))) w) (o6 : Lk G w a4 (arB n7 g8)) (b7 : ¬ m6 ≤ m3 → n7 < 2 ^ 31) (f8 : ¬ m6 ≤ m3 → ¬ n7 < m6) (q9 : ¬ m6 ≤ m3 → (g8 m3) < 128) (k10 : ¬ m6 ≤ m3 → Q (.inl (some (.int (nI (g8 m3))))) w) : Rn G mX3_here 4 [(0, .ref a1)] [] w Q := by
  refine r_aload_n 2 5 0 rfl rfl rfl ?_
  refine r_get (v := .int (nI m3)) fl_X3_15_X3 3 8 rfl rfl o1 rfl ?_
  refine r_aload_n 4 9 0 rfl rfl rfl ?_
  refine r_get (v := .ref a2) fl_X3_9_X3 5 12 rfl rfl o1 rfl ?_
  refine r_callV lkV_X3_19_J1 (C := RJ1) (TT := TJ1) (NN := 4) rfl o2 6 15 rfl rfl (by decide) [] rfl rfl (Nat.le_of_ble_eq_true rfl) (Nat.le_of_ble_eq_true rfl) (e_J1_length hS (m4 := m6) (o1 := o2) (k2 := ?_)) (fun _ _ h => h)
  show Rn G mX3_here 15 [(0, .ref a1)] [.int (nI m6), .int (nI m3)] w _
  refine y_icmp_ge (a := m3) (b := m6) bd3 bd4 7 18 32 rfl rfl rfl (fun c1 => ?_) (fun c1 => ?_)
  · refine r_iconst 14 33 rfl rfl di_0 ?_
    exact r_iret 15 rfl rfl (by decide) (k5 c1)
  · refine r_aload_n 8 19 0 rfl rfl rfl ?_
    refine r_get (v := .ref a2) fl_X3_9_X3 9 22 rfl rfl o1 rfl ?_
    refine r_aload_n 10 23 0 rfl rfl rfl ?_
    refine r_get (v := .int (nI m3)) fl_X3_15_X3 11 26 rfl rfl o1 rfl ?_
    refine r_callV lkV_X3_25_J1 (C := RJ1) (TT := TJ1) (NN := 4) rfl o2 12 29 rfl rfl (by decide) [.int (nI m3)] rfl rfl (Nat.le_of_ble_eq_true rfl) (Nat.le_of_ble_eq_true rfl) (e_J1_charAt hS (m5 := m6) (m2 := m3) (o1 := o2) (o2 := o6) (b3 := (by omega)) (b4 := (b7 c1)) (f5 := (f8 c1)) (b6 := (by omega)) (f7 := (by omega)) (q8 := (q9 c1)) (k9 := ?_)) (fun _ _ h => h)
    show Rn G mX3_here 29 [(0, .ref a1)] [.int (nI (g8 m3))] w _
    refine r_goto 13 33 rfl rfl ?_
    exact r_iret 15 rfl rfl (n_char (q9 c1)) (k10 c1)
theorem e_X3_isOver {G : Gm} {κ : Nat → Nat} {φ : Nat → Option Nat} (hS : GS G κ φ) {w : Wd} {Q : Rs → Wd → Prop} {a1 : Nat} {a2 : Nat} {m3 : Nat} (o1 : Lk G w a1 (.inl (nX3, [.ref a2, .int (nI m3)]))) {Q2 : Rs → Wd → Prop} (e2 : Ev G mX3_here [.ref a1] w Q2) (k2 : ∀ r w', Q2 r w' → Af G mX3_isOver 1 4 [] [] r w' Q) : Ev G mX3_isOver [.ref a1] w Q := by
  show Rn G mX3_isOver 0 [(0, .ref a1)] [] w Q
  refine r_aload_n 0 1 0 rfl rfl rfl ?_
  exact r_callV lkV_X3_32_X3 (C := RX3) (TT := TX3) (NN := 2) rfl o1 1 4 rfl rfl (by decide) [] rfl rfl (Nat.le_of_ble_eq_true rfl) (Nat.le_of_ble_eq_true rfl) e2 (fun r w' h => Af.sub [] rfl (k2 r w' h))
theorem e_X3_isOver_4 {G : Gm} {κ : Nat → Nat} {φ : Nat → Option Nat} (hS : GS G κ φ) {w : Wd} {Q : Rs → Wd → Prop} {m1 : Nat} (bd1 : m1 < 2 ^ 31) (k2 : ¬ m1 = 0 → Q (.inl (some (.int 0))) w) (k3 : m1 = 0 → Q (.inl (some (.int 1))) w) : Rn G mX3_isOver 4 [] [.int (nI m1)] w Q := by
  refine y_if_ne (a := m1) bd1 2 7 11 rfl rfl rfl (fun c1 => ?_) (fun c1 => ?_)
  · refine r_iconst 5 12 rfl rfl di_0 ?_
    exact r_iret 6 rfl rfl (by decide) (k2 c1)
  · refine r_iconst 3 8 rfl rfl di_1 ?_
    refine r_goto 4 12 rfl rfl ?_
    exact r_iret 6 rfl rfl (by decide) (k3 c1)
theorem e_X3_is {G : Gm} {κ : Nat → Nat} {φ : Nat → Option Nat} (hS : GS G κ φ) {w : Wd} {Q : Rs → Wd → Prop} {a1 : Nat} {m2 : Nat} {a3 : Nat} {m4 : Nat} (o1 : Lk G w a1 (.inl (nX3, [.ref a3, .int (nI m4)]))) {Q2 : Rs → Wd → Prop} (e2 : Ev G mX3_here [.ref a1] w Q2) (k2 : ∀ r w', Q2 r w' → Af G mX3_is 1 4 [(1, .int (nI m2))] [] r w' Q) : Ev G mX3_is [.ref a1, .int (nI m2)] w Q := by
  show Rn G mX3_is 0 [(0, .ref a1), (1, .int (nI m2))] [] w Q
  refine r_aload_n 0 1 0 rfl rfl rfl ?_
  exact r_callV lkV_X3_32_X3 (C := RX3) (TT := TX3) (NN := 2) rfl o1 1 4 rfl rfl (by decide) [] rfl rfl (Nat.le_of_ble_eq_true rfl) (Nat.le_of_ble_eq_true rfl) e2 (fun r w' h => Af.sub [1] rfl (k2 r w' h))
theorem e_X3_is_4 {G : Gm} {κ : Nat → Nat} {φ : Nat → Option Nat} (hS : GS G κ φ) {w : Wd} {Q : Rs → Wd → Prop} {m1 : Nat} {m2 : Nat} (bd1 : m2 < 2 ^ 31) (bd2 : m1 < 2 ^ 31) (k3 : ¬ m2 = m1 → Q (.inl (some (.int 0))) w) (k4 : m2 = m1 → Q (.inl (some (.int 1))) w) : Rn G mX3_is 4 [(1, .int (nI m1))] [.int (nI m2)] w Q := by
  refine r_iload_n 2 5 0 rfl rfl rfl ?_
  refine y_icmp_ne (a := m2) (b := m1) bd1 bd2 3 8 12 rfl rfl rfl (fun c1 => ?_) (fun c1 => ?_)
  · refine r_iconst 6 13 rfl rfl di_0 ?_
    exact r_iret 7 rfl rfl (by decide) (k3 c1)
  · refine r_iconst 4 9 rfl rfl di_1 ?_
    refine r_goto 5 13 rfl rfl ?_
    exact r_iret 7 rfl rfl (by decide) (k4 c1)
theorem e_X3_want {G : Gm} {κ : Nat → Nat} {φ : Nat → Option Nat} (hS : GS G κ φ) {w : Wd} {Q : Rs → Wd → Prop} {a1 : Nat} {x2 : Int32} {a3 : Nat} {m4 : Nat} (o1 : Lk G w a1 (.inl (nX3, [.ref a3, .int (nI m4)]))) {Q2 : Rs → Wd → Prop} (e2 : Ev G mX3_skip [.ref a1] w Q2) (k2 : ∀ r w', Q2 r w' → Af G mX3_want 1 4 [(0, .ref a1), (1, .int x2)] [] r w' Q) : Ev G mX3_want [.ref a1, .int x2] w Q := by
  show Rn G mX3_want 0 [(0, .ref a1), (1, .int x2)] [] w Q
  refine r_aload_n 0 1 0 rfl rfl rfl ?_
  exact r_callV lkV_X3_29_X3 (C := RX3) (TT := TX3) (NN := 2) rfl o1 1 4 rfl rfl (by decide) [] rfl rfl (Nat.le_of_ble_eq_true rfl) (Nat.le_of_ble_eq_true rfl) e2 (fun r w' h => Af.sub [0, 1] rfl (k2 r w' h))
theorem e_X3_want_4 {G : Gm} {κ : Nat → Nat} {φ : Nat → Option Nat} (hS : GS G κ φ) {w : Wd} {Q : Rs → Wd → Prop} {a1 : Nat} {x2 : Int32} {a3 : Nat} {m4 : Nat} (o1 : Lk G w a1 (.inl (nX3, [.ref a3, .int (nI m4)]))) {Q2 : Rs → Wd → Prop} (e2 : Ev G mX3_want_2 [.ref a1, .int x2, .int (nI m4)] w Q2) (k2 : ∀ r w', Q2 r w' → Af G mX3_want 10 13 [] [] r w' Q) : Rn G mX3_want 4 [(0, .ref a1), (1, .int x2)] [] w Q := by
  refine r_aload_n 2 5 0 rfl rfl rfl ?_
  refine r_iload_n 3 6 1 rfl rfl rfl ?_
  refine r_aload_n 4 7 0 rfl rfl rfl ?_
  refine r_get (v := .int (nI m4)) fl_X3_15_X3 5 10 rfl rfl o1 rfl ?_
  exact r_callV lkV_X3_41_X3 (C := RX3) (TT := TX3) (NN := 2) rfl o1 6 13 rfl rfl (by decide) [.int x2, .int (nI m4)] rfl rfl (Nat.le_of_ble_eq_true rfl) (Nat.le_of_ble_eq_true rfl) e2 (fun r w' h => Af.sub [] rfl (k2 r w' h))
theorem e_X3_want_13 {G : Gm} {κ : Nat → Nat} {φ : Nat → Option Nat} (hS : GS G κ φ) {w : Wd} {Q : Rs → Wd → Prop} (k1 : Q (.inl none) w) : Rn G mX3_want 13 [] [] w Q := by
  exact r_vret 7 rfl rfl k1
theorem e_X3_take {G : Gm} {κ : Nat → Nat} {φ : Nat → Option Nat} (hS : GS G κ φ) {w : Wd} {Q : Rs → Wd → Prop} {a1 : Nat} {m2 : Nat} {a3 : Nat} {m4 : Nat} (o1 : Lk G w a1 (.inl (nX3, [.ref a3, .int (nI m4)]))) {Q2 : Rs → Wd → Prop} (e2 : Ev G mX3_is [.ref a1, .int (nI m2)] w Q2) (k2 : ∀ r w', Q2 r w' → Af G mX3_take 3 6 [(0, .ref a1)] [.ref a1] r w' Q) : Ev G mX3_take [.ref a1, .int (nI m2)] w Q := by
  show Rn G mX3_take 0 [(0, .ref a1), (1, .int (nI m2))] [] w Q
  refine r_aload_n 0 1 0 rfl rfl rfl ?_
  refine r_aload_n 1 2 0 rfl rfl rfl ?_
  refine r_iload_n 2 3 1 rfl rfl rfl ?_
  exact r_callV lkV_X3_45_X3 (C := RX3) (TT := TX3) (NN := 2) rfl o1 3 6 rfl rfl (by decide) [.int (nI m2)] rfl rfl (Nat.le_of_ble_eq_true rfl) (Nat.le_of_ble_eq_true rfl) e2 (fun r w' h => Af.sub [0] rfl (k2 r w' h))
theorem e_X3_take_6 {G : Gm} {κ : Nat → Nat} {φ : Nat → Option Nat} (hS : GS G κ φ) {w : Wd} {Q : Rs → Wd → Prop} {k_a1 : Nat} {x1 : Int32} {a2 : Nat} {m3 : Nat} (o1 : Lk G w k_a1 (.inl (nX3, [.ref a2, .int (nI m3)]))) {Q2 : Rs → Wd → Prop} (e2 : Ev G mX3_want [.ref k_a1, .int x1] w Q2) (k2 : ∀ r w', Q2 r w' → Af G mX3_take 6 9 [(0, .ref k_a1)] [] r w' Q) : Rn G mX3_take 6 [(0, .ref k_a1)] [.int x1, .ref k_a1] w Q := by
  exact r_callV lkV_X3_49_X3 (C := RX3) (TT := TX3) (NN := 2) rfl o1 4 9 rfl rfl (by decide) [.int x1] rfl rfl (Nat.le_of_ble_eq_true rfl) (Nat.le_of_ble_eq_true rfl) e2 (fun r w' h => Af.sub [0] rfl (k2 r w' h))
theorem e_X3_take_9 {G : Gm} {κ : Nat → Nat} {φ : Nat → Option Nat} (hS : GS G κ φ) {w : Wd} {Q : Rs → Wd → Prop} {a1 : Nat} {a2 : Nat} {m3 : Nat} (o1 : w.1 a1 = some (.inl (nX3, [.ref a2, .int (nI m3)]))) (k2 : Q (.inl none) (wset w a1 (.inl (nX3, [.ref a2, .int (nI (m3 + 1))])))) : Rn G mX3_take 9 [(0, .ref a1)] [] w Q := by
  refine r_aload_n 5 10 0 rfl rfl rfl ?_
  refine r_dup 6 11 rfl rfl rfl ?_
  refine r_get (v := .int (nI m3)) fl_X3_15_X3 7 14 rfl rfl (Or.inl o1) rfl ?_
  refine r_iconst 8 15 rfl rfl di_1 ?_
  refine r_iadd 9 16 rfl rfl ?_
  refine x_eq (y := (nI (m3 + 1))) (nI_add _ _) ?_
  refine r_put (i := 1) fl_X3_15_X3 in_X3 q228 (ty0 := tyX3) tyX3_ok nmX3 10 19 rfl rfl o1 rfl rfl rfl (Nat.le_of_ble_eq_true rfl) ?_
  show Rn G mX3_take 19 [(0, .ref a1)] [] (wset w a1 (.inl (nX3, [.ref a2, .int (nI (m3 + 1))]))) _
  exact r_vret 11 rfl rfl k2
theorem e_X3_name {G : Gm} {κ : Nat → Nat} {φ : Nat → Option Nat} (hS : GS G κ φ) {w : Wd} {Q : Rs → Wd → Prop} {a1 : Nat} {a2 : Nat} {m3 : Nat} (o1 : Lk G w a1 (.inl (nX3, [.ref a2, .int (nI m3)]))) {Q2 : Rs → Wd → Prop} (e2 : Ev G mX3_here [.ref a1] w Q2) (k2 : ∀ r w', Q2 r w' → Af G mX3_name 2 5 [(0, .ref a1)] [.ref a1] r w' Q) : Ev G mX3_name [.ref a1] w Q := by
  show Rn G mX3_name 0 [(0, .ref a1)] [] w Q
  refine r_aload_n 0 1 0 rfl rfl rfl ?_
  refine r_aload_n 1 2 0 rfl rfl rfl ?_
  exact r_callV lkV_X3_32_X3 (C := RX3) (TT := TX3) (NN := 2) rfl o1 2 5 rfl rfl (by decide) [] rfl rfl (Nat.le_of_ble_eq_true rfl) (Nat.le_of_ble_eq_true rfl) e2 (fun r w' h => Af.sub [0] rfl (k2 r w' h))
theorem e_X3_name_5 {G : Gm} {κ : Nat → Nat} {φ : Nat → Option Nat} (hS : GS G κ φ) {w : Wd} {Q : Rs → Wd → Prop} {k_a1 : Nat} {m1 : Nat} {a2 : Nat} {m3 : Nat} (b1 : m1 < 2 ^ 31) (o2 : Lk G w k_a1 (.inl (nX3, [.ref a2, .int (nI m3)]))) {Q3 : Rs → Wd → Prop} (e3 : m1 < 65 → Ev G mX3_want [.ref k_a1, .int 0] w Q3) (k3 : m1 < 65 → ∀ r w', Q3 r w' → Af G mX3_name 8 11 [(0, .ref k_a1)] [] r w' Q) {Q4 : Rs → Wd → Prop} (e4 : ¬ m1 < 65 → 90 < m1 → Ev G mX3_want [.ref k_a1, .int 0] w Q4) (k4 : ¬ m1 < 65 → 90 < m1 → ∀ r w', Q4 r w' → Af G mX3_name 8 11 [(0, .ref k_a1)] [] r w' Q) {Q5 : Rs → Wd → Prop} (e5 : ¬ m1 < 65 → ¬ 90 < m1 → Ev G mX3_want [.ref k_a1, .int 1] w Q5) (k5 : ¬ m1 < 65 → ¬ 90 < m1 → ∀ r w', Q5 r w' → Af G mX3_name 8 11 [(0, .ref k_a1)] [] r w' Q) : Rn G mX3_name 5 [(0, .ref k_a1)] [.int (nI m1), .ref k_a1] w Q := by
  refine r_callS lkS_X3_52 3 8 rfl rfl (by decide) [.int (nI m1)] rfl rfl (Nat.le_of_ble_eq_true rfl) (Nat.le_of_ble_eq_true rfl) (e_X3_isLetter hS (m1 := m1) (bd1 := b1) (k2 := fun z0_0 => ?_) (k3 := fun z0_0 => fun z0_1 => ?_) (k4 := fun z0_0 => fun z0_1 => ?_)) (fun _ _ h => h)
  · show Rn G mX3_name 8 [(0, .ref k_a1)] [.int 0, .ref k_a1] w _
    exact r_callV lkV_X3_49_X3 (C := RX3) (TT := TX3) (NN := 2) rfl o2 4 11 rfl rfl (by decide) [.int 0] rfl rfl (Nat.le_of_ble_eq_true rfl) (Nat.le_of_ble_eq_true rfl) (e3 z0_0) (fun r w' h => Af.sub [0] rfl ((k3 z0_0) r w' h))
  · show Rn G mX3_name 8 [(0, .ref k_a1)] [.int 0, .ref k_a1] w _
    exact r_callV lkV_X3_49_X3 (C := RX3) (TT := TX3) (NN := 2) rfl o2 4 11 rfl rfl (by decide) [.int 0] rfl rfl (Nat.le_of_ble_eq_true rfl) (Nat.le_of_ble_eq_true rfl) (e4 z0_0 z0_1) (fun r w' h => Af.sub [0] rfl ((k4 z0_0 z0_1) r w' h))
  · show Rn G mX3_name 8 [(0, .ref k_a1)] [.int 1, .ref k_a1] w _
    exact r_callV lkV_X3_49_X3 (C := RX3) (TT := TX3) (NN := 2) rfl o2 4 11 rfl rfl (by decide) [.int 1] rfl rfl (Nat.le_of_ble_eq_true rfl) (Nat.le_of_ble_eq_true rfl) (e5 z0_0 z0_1) (fun r w' h => Af.sub [0] rfl ((k5 z0_0 z0_1) r w' h))
theorem e_X3_name_11 {G : Gm} {κ : Nat → Nat} {φ : Nat → Option Nat} (hS : GS G κ φ) {w : Wd} {Q : Rs → Wd → Prop} {a1 : Nat} {a2 : Nat} {m3 : Nat} (o1 : Lk G w a1 (.inl (nX3, [.ref a2, .int (nI m3)]))) (k2 : Rn G mX3_name 16 [(0, .ref a1), (1, .int (nI m3))] [] w Q) : Rn G mX3_name 11 [(0, .ref a1)] [] w Q := by
  refine r_aload_n 5 12 0 rfl rfl rfl ?_
  refine r_get (v := .int (nI m3)) fl_X3_15_X3 6 15 rfl rfl o1 rfl ?_
  refine r_istore_n (lv' := [(1, .int (nI m3)), (0, .ref a1)]) 7 16 rfl rfl (Nat.le_of_ble_eq_true rfl) rfl ?_
  exact r_sub [1, 0] rfl k2
theorem e_X3_name_16 {G : Gm} {κ : Nat → Nat} {φ : Nat → Option Nat} (hS : GS G κ φ) {w : Wd} {Q : Rs → Wd → Prop} {a1 : Nat} {m2 : Nat} {a3 : Nat} {m4 : Nat} {a5 : Nat} {x6 : Int32} {m7 : Nat} {n8 : Nat} {g9 : Nat → Nat} (o1 : w.1 a1 = some (.inl (nX3, [.ref a3, .int (nI m4)]))) (o2 : Lk G w a3 (.inl (nJ1, [.ref a5, .int 0, .int x6, .int (nI m7)]))) (bd3 : m4 < 2 ^ 31) (bd4 : m7 < 2 ^ 31) (b5 : m7 ≤ m4 → m2 ≤ m4) {Q6 : Rs → Wd → Prop} (e6 : m7 ≤ m4 → 8 < (m4 - m2) → Ev G mX3_want_2 [.ref a1, .int 0, .int (nI m2)] w Q6) (k6 : m7 ≤ m4 → 8 < (m4 - m2) → ∀ r w', Q6 r w' → Af G mX3_name 78 81 [(0, .ref a1), (1, .int (nI m2))] [] r w' Q) {Q7 : Rs → Wd → Prop} (e7 : m7 ≤ m4 → ¬ 8 < (m4 - m2) → Ev G mX3_want_2 [.ref a1, .int 1, .int (nI m2)] w Q7) (k7 : m7 ≤ m4 → ¬ 8 < (m4 - m2) → ∀ r w', Q7 r w' → Af G mX3_name 78 81 [(0, .ref a1), (1, .int (nI m2))] [] r w' Q) (o8 : Lk G w a5 (arB n8 g9)) (b9 : ¬ m7 ≤ m4 → n8 < 2 ^ 31) (f10 : ¬ m7 ≤ m4 → ¬ n8 < m7) (q11 : ¬ m7 ≤ m4 → (g9 m4) < 128) (b12 : ¬ m7 ≤ m4 → (g9 m4) < 2 ^ 31) (b13 : ¬ m7 ≤ m4 → (g9 m4) < 65 → m2 ≤ m4) {Q14 : Rs → Wd → Prop} (e14 : ¬ m7 ≤ m4 → (g9 m4) < 65 → 8 < (m4 - m2) → Ev G mX3_want_2 [.ref a1, .int 0, .int (nI m2)] w Q14) (k14 : ¬ m7 ≤ m4 → (g9 m4) < 65 → 8 < (m4 - m2) → ∀ r w', Q14 r w' → Af G mX3_name 78 81 [(0, .ref a1), (1, .int (nI m2))] [] r w' Q) {Q15 : Rs → Wd → Prop} (e15 : ¬ m7 ≤ m4 → (g9 m4) < 65 → ¬ 8 < (m4 - m2) → Ev G mX3_want_2 [.ref a1, .int 1, .int (nI m2)] w Q15) (k15 : ¬ m7 ≤ m4 → (g9 m4) < 65 → ¬ 8 < (m4 - m2) → ∀ r w', Q15 r w' → Af G mX3_name 78 81 [(0, .ref a1), (1, .int (nI m2))] [] r w' Q) (b16 : ¬ m7 ≤ m4 → ¬ (g9 m4) < 65 → 90 < (g9 m4) → m2 ≤ m4) {Q17 : Rs → Wd → Prop} (e17 : ¬ m7 ≤ m4 → ¬ (g9 m4) < 65 → 90 < (g9 m4) → 8 < (m4 - m2) → Ev G mX3_want_2 [.ref a1, .int 0, .int (nI m2)] w Q17) (k17 : ¬ m7 ≤ m4 → ¬ (g9 m4) < 65 → 90 < (g9 m4) → 8 < (m4 - m2) → ∀ r w', Q17 r w' → Af G mX3_name 78 81 [(0, .ref a1), (1, .int (nI m2))] [] r w' Q) {Q18 : Rs → Wd → Prop} (e18 : ¬ m7 ≤ m4 → ¬ (g9 m4) < 65 → 90 < (g9 m4) → ¬ 8 < (m4 - m2) → Ev G mX3_want_2 [.ref a1, .int 1, .int (nI m2)] w Q18) (k18 : ¬ m7 ≤ m4 → ¬ (g9 m4) < 65 → 90 < (g9 m4) → ¬ 8 < (m4 - m2) → ∀ r w', Q18 r w' → Af G mX3_name 78 81 [(0, .ref a1), (1, .int (nI m2))] [] r w' Q) (k19 : ¬ m7 ≤ m4 → ¬ (g9 m4) < 65 → ¬ 90 < (g9 m4) → Rn G mX3_name 16 [(0, .ref a1), (1, .int (nI m2))] [] (wset w a1 (.inl (nX3, [.ref a3, .int (nI (m4 + 1))]))) Q) : Rn G mX3_name 16 [(0, .ref a1), (1, .int (nI m2))] [] w Q := by
  refine r_aload_n 8 17 0 rfl rfl rfl ?_
  refine r_get (v := .int (nI m4)) fl_X3_15_X3 9 20 rfl rfl (Or.inl o1) rfl ?_
  refine r_aload_n 10 21 0 rfl rfl rfl ?_
  refine r_get (v := .ref a3) fl_X3_9_X3 11 24 rfl rfl (Or.inl o1) rfl ?_
  refine r_callV lkV_X3_19_J1 (C := RJ1) (TT := TJ1) (NN := 4) rfl o2 12 27 rfl rfl (by decide) [] rfl rfl (Nat.le_of_ble_eq_true rfl) (Nat.le_of_ble_eq_true rfl) (e_J1_length hS (m4 := m7) (o1 := o2) (k2 := ?_)) (fun _ _ h => h)
  show Rn G mX3_name 27 [(0, .ref a1), (1, .int (nI m2))] [.int (nI m7), .int (nI m4)] w _
  refine y_icmp_ge (a := m4) (b := m7) bd3 bd4 13 30 60 rfl rfl rfl (fun c1 => ?_) (fun c1 => ?_)
  · refine r_aload_n 28 61 0 rfl rfl rfl ?_
    refine r_aload_n 29 62 0 rfl rfl rfl ?_
    refine r_get (v := .int (nI m4)) fl_X3_15_X3 30 65 rfl rfl (Or.inl o1) rfl ?_
    refine r_iload_n 31 66 1 rfl rfl rfl ?_
    refine r_isub 32 67 rfl rfl ?_
    refine x_eq (y := (nI (m4 - m2))) (pk_sub (a := m4) (b := m2) (b5 c1)) ?_
    refine r_bipush 33 69 rfl rfl db_8 ?_
    refine y_icmp_gt (a := (m4 - m2)) (b := 8) (by omega) (by decide) 34 72 76 rfl rfl rfl (fun c2 => ?_) (fun c2 => ?_)
    · refine r_iconst 37 77 rfl rfl di_0 ?_
      refine r_iload_n 38 78 1 rfl rfl rfl ?_
      exact r_callV lkV_X3_41_X3 (C := RX3) (TT := TX3) (NN := 2) rfl (Or.inl o1) 39 81 rfl rfl (by decide) [.int 0, .int (nI m2)] rfl rfl (Nat.le_of_ble_eq_true rfl) (Nat.le_of_ble_eq_true rfl) (e6 c1 c2) (fun r w' h => Af.sub [0, 1] rfl ((k6 c1 c2) r w' h))
    · refine r_iconst 35 73 rfl rfl di_1 ?_
      refine r_goto 36 77 rfl rfl ?_
      refine r_iload_n 38 78 1 rfl rfl rfl ?_
      exact r_callV lkV_X3_41_X3 (C := RX3) (TT := TX3) (NN := 2) rfl (Or.inl o1) 39 81 rfl rfl (by decide) [.int 1, .int (nI m2)] rfl rfl (Nat.le_of_ble_eq_true rfl) (Nat.le_of_ble_eq_true rfl) (e7 c1 c2) (fun r w' h => Af.sub [0, 1] rfl ((k7 c1 c2) r w' h))
  · refine r_aload_n 14 31 0 rfl rfl rfl ?_
    refine r_get (v := .ref a3) fl_X3_9_X3 15 34 rfl rfl (Or.inl o1) rfl ?_
    refine r_aload_n 16 35 0 rfl rfl rfl ?_
    refine r_get (v := .int (nI m4)) fl_X3_15_X3 17 38 rfl rfl (Or.inl o1) rfl ?_
    refine r_callV lkV_X3_25_J1 (C := RJ1) (TT := TJ1) (NN := 4) rfl o2 18 41 rfl rfl (by decide) [.int (nI m4)] rfl rfl (Nat.le_of_ble_eq_true rfl) (Nat.le_of_ble_eq_true rfl) (e_J1_charAt hS (m5 := m7) (m2 := m4) (o1 := o2) (o2 := o8) (b3 := (by omega)) (b4 := (b9 c1)) (f5 := (f10 c1)) (b6 := (by omega)) (f7 := (by omega)) (q8 := (q11 c1)) (k9 := ?_)) (fun _ _ h => h)
    show Rn G mX3_name 41 [(0, .ref a1), (1, .int (nI m2))] [.int (nI (g9 m4))] w _
    refine r_callS lkS_X3_52 19 44 rfl rfl (by decide) [.int (nI (g9 m4))] rfl rfl (Nat.le_of_ble_eq_true rfl) (Nat.le_of_ble_eq_true rfl) (e_X3_isLetter hS (m1 := (g9 m4)) (bd1 := (b12 c1)) (k2 := fun z1_0 => ?_) (k3 := fun z1_0 => fun z1_1 => ?_) (k4 := fun z1_0 => fun z1_1 => ?_)) (fun _ _ h => h)
    · show Rn G mX3_name 44 [(0, .ref a1), (1, .int (nI m2))] [.int 0] w _
      refine r_if_eq 20 47 60 rfl rfl rfl (fun _ => ?_) (fun c => absurd c (by decide))
      refine r_aload_n 28 61 0 rfl rfl rfl ?_
      refine r_aload_n 29 62 0 rfl rfl rfl ?_
      refine r_get (v := .int (nI m4)) fl_X3_15_X3 30 65 rfl rfl (Or.inl o1) rfl ?_
      refine r_iload_n 31 66 1 rfl rfl rfl ?_
      refine r_isub 32 67 rfl rfl ?_
      refine x_eq (y := (nI (m4 - m2))) (pk_sub (a := m4) (b := m2) (b13 c1 z1_0)) ?_
      refine r_bipush 33 69 rfl rfl db_8 ?_
      refine y_icmp_gt (a := (m4 - m2)) (b := 8) (by omega) (by decide) 34 72 76 rfl rfl rfl (fun c3 => ?_) (fun c3 => ?_)
      · refine r_iconst 37 77 rfl rfl di_0 ?_
        refine r_iload_n 38 78 1 rfl rfl rfl ?_
        exact r_callV lkV_X3_41_X3 (C := RX3) (TT := TX3) (NN := 2) rfl (Or.inl o1) 39 81 rfl rfl (by decide) [.int 0, .int (nI m2)] rfl rfl (Nat.le_of_ble_eq_true rfl) (Nat.le_of_ble_eq_true rfl) (e14 c1 z1_0 c3) (fun r w' h => Af.sub [0, 1] rfl ((k14 c1 z1_0 c3) r w' h))
      · refine r_iconst 35 73 rfl rfl di_1 ?_
        refine r_goto 36 77 rfl rfl ?_
        refine r_iload_n 38 78 1 rfl rfl rfl ?_
        exact r_callV lkV_X3_41_X3 (C := RX3) (TT := TX3) (NN := 2) rfl (Or.inl o1) 39 81 rfl rfl (by decide) [.int 1, .int (nI m2)] rfl rfl (Nat.le_of_ble_eq_true rfl) (Nat.le_of_ble_eq_true rfl) (e15 c1 z1_0 c3) (fun r w' h => Af.sub [0, 1] rfl ((k15 c1 z1_0 c3) r w' h))
    · show Rn G mX3_name 44 [(0, .ref a1), (1, .int (nI m2))] [.int 0] w _
      refine r_if_eq 20 47 60 rfl rfl rfl (fun _ => ?_) (fun c => absurd c (by decide))
      refine r_aload_n 28 61 0 rfl rfl rfl ?_
      refine r_aload_n 29 62 0 rfl rfl rfl ?_
      refine r_get (v := .int (nI m4)) fl_X3_15_X3 30 65 rfl rfl (Or.inl o1) rfl ?_
      refine r_iload_n 31 66 1 rfl rfl rfl ?_
      refine r_isub 32 67 rfl rfl ?_
      refine x_eq (y := (nI (m4 - m2))) (pk_sub (a := m4) (b := m2) (b16 c1 z1_0 z1_1)) ?_
      refine r_bipush 33 69 rfl rfl db_8 ?_
      refine y_icmp_gt (a := (m4 - m2)) (b := 8) (by omega) (by decide) 34 72 76 rfl rfl rfl (fun c4 => ?_) (fun c4 => ?_)
      · refine r_iconst 37 77 rfl rfl di_0 ?_
        refine r_iload_n 38 78 1 rfl rfl rfl ?_
        exact r_callV lkV_X3_41_X3 (C := RX3) (TT := TX3) (NN := 2) rfl (Or.inl o1) 39 81 rfl rfl (by decide) [.int 0, .int (nI m2)] rfl rfl (Nat.le_of_ble_eq_true rfl) (Nat.le_of_ble_eq_true rfl) (e17 c1 z1_0 z1_1 c4) (fun r w' h => Af.sub [0, 1] rfl ((k17 c1 z1_0 z1_1 c4) r w' h))
      · refine r_iconst 35 73 rfl rfl di_1 ?_
        refine r_goto 36 77 rfl rfl ?_
        refine r_iload_n 38 78 1 rfl rfl rfl ?_
        exact r_callV lkV_X3_41_X3 (C := RX3) (TT := TX3) (NN := 2) rfl (Or.inl o1) 39 81 rfl rfl (by decide) [.int 1, .int (nI m2)] rfl rfl (Nat.le_of_ble_eq_true rfl) (Nat.le_of_ble_eq_true rfl) (e18 c1 z1_0 z1_1 c4) (fun r w' h => Af.sub [0, 1] rfl ((k18 c1 z1_0 z1_1 c4) r w' h))
    · show Rn G mX3_name 44 [(0, .ref a1), (1, .int (nI m2))] [.int 1] w _
      refine r_if_eq 20 47 60 rfl rfl rfl (fun c => absurd c (by decide)) (fun _ => ?_)
      refine r_aload_n 21 48 0 rfl rfl rfl ?_
      refine r_dup 22 49 rfl rfl rfl ?_
      refine r_get (v := .int (nI m4)) fl_X3_15_X3 23 52 rfl rfl (Or.inl o1) rfl ?_
      refine r_iconst 24 53 rfl rfl di_1 ?_
      refine r_iadd 25 54 rfl rfl ?_
      refine x_eq (y := (nI (m4 + 1))) (nI_add _ _) ?_
      refine r_put (i := 1) fl_X3_15_X3 in_X3 q228 (ty0 := tyX3) tyX3_ok nmX3 26 57 rfl rfl o1 rfl rfl rfl (Nat.le_of_ble_eq_true rfl) ?_
      show Rn G mX3_name 57 [(0, .ref a1), (1, .int (nI m2))] [] (wset w a1 (.inl (nX3, [.ref a3, .int (nI (m4 + 1))]))) _
      refine r_goto 27 16 rfl rfl ?_
      exact (k19 c1 z1_0 z1_1)
theorem e_X3_name_81 {G : Gm} {κ : Nat → Nat} {φ : Nat → Option Nat} (hS : GS G κ φ) {w : Wd} {Q : Rs → Wd → Prop} {a1 : Nat} {m2 : Nat} {a3 : Nat} {m4 : Nat} {a5 : Nat} {x6 : Int32} {m7 : Nat} (o1 : Lk G w a1 (.inl (nX3, [.ref a3, .int (nI m4)]))) (o2 : Lk G w a3 (.inl (nJ1, [.ref a5, .int 0, .int x6, .int (nI m7)]))) {Q3 : Rs → Wd → Prop} (e3 : Ev G mJ1_substring [.ref a3, .int (nI m2), .int (nI m4)] w Q3) (k3 : ∀ r w', Q3 r w' → Af G mX3_name 90 93 [] [] r w' Q) : Rn G mX3_name 81 [(0, .ref a1), (1, .int (nI m2))] [] w Q := by
  refine r_aload_n 40 82 0 rfl rfl rfl ?_
  refine r_get (v := .ref a3) fl_X3_9_X3 41 85 rfl rfl o1 rfl ?_
  refine r_iload_n 42 86 1 rfl rfl rfl ?_
  refine r_aload_n 43 87 0 rfl rfl rfl ?_
  refine r_get (v := .int (nI m4)) fl_X3_15_X3 44 90 rfl rfl o1 rfl ?_
  exact r_callV lkV_X3_55_J1 (C := RJ1) (TT := TJ1) (NN := 4) rfl o2 45 93 rfl rfl (by decide) [.int (nI m2), .int (nI m4)] rfl rfl (Nat.le_of_ble_eq_true rfl) (Nat.le_of_ble_eq_true rfl) e3 (fun r w' h => Af.sub [] rfl (k3 r w' h))
theorem e_X3_name_93 {G : Gm} {κ : Nat → Nat} {φ : Nat → Option Nat} (hS : GS G κ φ) {w : Wd} {Q : Rs → Wd → Prop} {a1 : Nat} (k1 : Q (.inl (some (.ref a1))) w) : Rn G mX3_name 93 [] [.ref a1] w Q := by
  exact r_aret 46 rfl rfl (Or.inl ⟨_, rfl⟩) (Or.inr ⟨_, rfl⟩) k1
theorem e_X3_number {G : Gm} {κ : Nat → Nat} {φ : Nat → Option Nat} (hS : GS G κ φ) {w : Wd} {Q : Rs → Wd → Prop} {a1 : Nat} {m2 : Nat} {x3 : Int32} {a4 : Nat} {m5 : Nat} (o1 : Lk G w a1 (.inl (nX3, [.ref a4, .int (nI m5)]))) {Q2 : Rs → Wd → Prop} (e2 : Ev G mX3_here [.ref a1] w Q2) (k2 : ∀ r w', Q2 r w' → Af G mX3_number 2 5 [(0, .ref a1), (1, .int (nI m2)), (2, .int x3)] [.ref a1] r w' Q) : Ev G mX3_number [.ref a1, .int (nI m2), .int x3] w Q := by
  show Rn G mX3_number 0 [(0, .ref a1), (1, .int (nI m2)), (2, .int x3)] [] w Q
  refine r_aload_n 0 1 0 rfl rfl rfl ?_
  refine r_aload_n 1 2 0 rfl rfl rfl ?_
  exact r_callV lkV_X3_32_X3 (C := RX3) (TT := TX3) (NN := 2) rfl o1 2 5 rfl rfl (by decide) [] rfl rfl (Nat.le_of_ble_eq_true rfl) (Nat.le_of_ble_eq_true rfl) e2 (fun r w' h => Af.sub [0, 1, 2] rfl (k2 r w' h))
theorem e_X3_number_5 {G : Gm} {κ : Nat → Nat} {φ : Nat → Option Nat} (hS : GS G κ φ) {w : Wd} {Q : Rs → Wd → Prop} {k_a1 : Nat} {m1 : Nat} {x2 : Int32} {m3 : Nat} {a4 : Nat} {m5 : Nat} (b1 : m3 < 2 ^ 31) (o2 : Lk G w k_a1 (.inl (nX3, [.ref a4, .int (nI m5)]))) {Q3 : Rs → Wd → Prop} (e3 : m3 < 48 → x2 = 0 → Ev G mX3_want [.ref k_a1, .int 0] w Q3) (k3 : m3 < 48 → x2 = 0 → ∀ r w', Q3 r w' → Af G mX3_number 29 32 [(0, .ref k_a1), (1, .int (nI m1))] [] r w' Q) {Q4 : Rs → Wd → Prop} (e4 : m3 < 48 → ¬ x2 = 0 → Ev G mX3_is [.ref k_a1, .int 45] w Q4) (k4 : m3 < 48 → ¬ x2 = 0 → ∀ r w', Q4 r w' → Af G mX3_number 18 21 [(0, .ref k_a1), (1, .int (nI m1))] [.ref k_a1] r w' Q) {Q5 : Rs → Wd → Prop} (e5 : ¬ m3 < 48 → 57 < m3 → x2 = 0 → Ev G mX3_want [.ref k_a1, .int 0] w Q5) (k5 : ¬ m3 < 48 → 57 < m3 → x2 = 0 → ∀ r w', Q5 r w' → Af G mX3_number 29 32 [(0, .ref k_a1), (1, .int (nI m1))] [] r w' Q) {Q6 : Rs → Wd → Prop} (e6 : ¬ m3 < 48 → 57 < m3 → ¬ x2 = 0 → Ev G mX3_is [.ref k_a1, .int 45] w Q6) (k6 : ¬ m3 < 48 → 57 < m3 → ¬ x2 = 0 → ∀ r w', Q6 r w' → Af G mX3_number 18 21 [(0, .ref k_a1), (1, .int (nI m1))] [.ref k_a1] r w' Q) {Q7 : Rs → Wd → Prop} (e7 : ¬ m3 < 48 → ¬ 57 < m3 → Ev G mX3_want [.ref k_a1, .int 1] w Q7) (k7 : ¬ m3 < 48 → ¬ 57 < m3 → ∀ r w', Q7 r w' → Af G mX3_number 29 32 [(0, .ref k_a1), (1, .int (nI m1))] [] r w' Q) : Rn G mX3_number 5 [(0, .ref k_a1), (1, .int (nI m1)), (2, .int x2)] [.int (nI m3), .ref k_a1] w Q := by
  refine r_callS lkS_X3_59 3 8 rfl rfl (by decide) [.int (nI m3)] rfl rfl (Nat.le_of_ble_eq_true rfl) (Nat.le_of_ble_eq_true rfl) (e_X3_isDigit hS (m1 := m3) (bd1 := b1) (k2 := fun z0_0 => ?_) (k3 := fun z0_0 => fun z0_1 => ?_) (k4 := fun z0_0 => fun z0_1 => ?_)) (fun _ _ h => h)
  · show Rn G mX3_number 8 [(0, .ref k_a1), (1, .int (nI m1)), (2, .int x2)] [.int 0, .ref k_a1] w _
    refine r_if_ne 4 11 24 rfl rfl rfl (fun c => absurd c (by decide)) (fun _ => ?_)
    refine r_iload_n 5 12 2 rfl rfl rfl ?_
    refine r_if_eq 6 15 28 rfl rfl rfl (fun c2 => ?_) (fun c2 => ?_)
    · refine r_iconst 13 29 rfl rfl di_0 ?_
      exact r_callV lkV_X3_49_X3 (C := RX3) (TT := TX3) (NN := 2) rfl o2 14 32 rfl rfl (by decide) [.int 0] rfl rfl (Nat.le_of_ble_eq_true rfl) (Nat.le_of_ble_eq_true rfl) (e3 z0_0 c2) (fun r w' h => Af.sub [0, 1] rfl ((k3 z0_0 c2) r w' h))
    · refine r_aload_n 7 16 0 rfl rfl rfl ?_
      refine r_bipush 8 18 rfl rfl db_45 ?_
      exact r_callV lkV_X3_45_X3 (C := RX3) (TT := TX3) (NN := 2) rfl o2 9 21 rfl rfl (by decide) [.int 45] rfl rfl (Nat.le_of_ble_eq_true rfl) (Nat.le_of_ble_eq_true rfl) (e4 z0_0 c2) (fun r w' h => Af.sub [0, 1] rfl ((k4 z0_0 c2) r w' h))
  · show Rn G mX3_number 8 [(0, .ref k_a1), (1, .int (nI m1)), (2, .int x2)] [.int 0, .ref k_a1] w _
    refine r_if_ne 4 11 24 rfl rfl rfl (fun c => absurd c (by decide)) (fun _ => ?_)
    refine r_iload_n 5 12 2 rfl rfl rfl ?_
    refine r_if_eq 6 15 28 rfl rfl rfl (fun c3 => ?_) (fun c3 => ?_)
    · refine r_iconst 13 29 rfl rfl di_0 ?_
      exact r_callV lkV_X3_49_X3 (C := RX3) (TT := TX3) (NN := 2) rfl o2 14 32 rfl rfl (by decide) [.int 0] rfl rfl (Nat.le_of_ble_eq_true rfl) (Nat.le_of_ble_eq_true rfl) (e5 z0_0 z0_1 c3) (fun r w' h => Af.sub [0, 1] rfl ((k5 z0_0 z0_1 c3) r w' h))
    · refine r_aload_n 7 16 0 rfl rfl rfl ?_
      refine r_bipush 8 18 rfl rfl db_45 ?_
      exact r_callV lkV_X3_45_X3 (C := RX3) (TT := TX3) (NN := 2) rfl o2 9 21 rfl rfl (by decide) [.int 45] rfl rfl (Nat.le_of_ble_eq_true rfl) (Nat.le_of_ble_eq_true rfl) (e6 z0_0 z0_1 c3) (fun r w' h => Af.sub [0, 1] rfl ((k6 z0_0 z0_1 c3) r w' h))
  · show Rn G mX3_number 8 [(0, .ref k_a1), (1, .int (nI m1)), (2, .int x2)] [.int 1, .ref k_a1] w _
    refine r_if_ne 4 11 24 rfl rfl rfl (fun _ => ?_) (fun c => absurd c (by decide))
    refine r_iconst 11 25 rfl rfl di_1 ?_
    refine r_goto 12 29 rfl rfl ?_
    exact r_callV lkV_X3_49_X3 (C := RX3) (TT := TX3) (NN := 2) rfl o2 14 32 rfl rfl (by decide) [.int 1] rfl rfl (Nat.le_of_ble_eq_true rfl) (Nat.le_of_ble_eq_true rfl) (e7 z0_0 z0_1) (fun r w' h => Af.sub [0, 1] rfl ((k7 z0_0 z0_1) r w' h))
theorem e_X3_number_32 {G : Gm} {κ : Nat → Nat} {φ : Nat → Option Nat} (hS : GS G κ φ) {w : Wd} {Q : Rs → Wd → Prop} {a1 : Nat} {m2 : Nat} {a3 : Nat} {m4 : Nat} (o1 : Lk G w a1 (.inl (nX3, [.ref a3, .int (nI m4)]))) {Q2 : Rs → Wd → Prop} (e2 : Ev G mX3_is [.ref a1, .int 45] w Q2) (k2 : ∀ r w', Q2 r w' → Af G mX3_number 40 43 [(0, .ref a1), (1, .int (nI m2)), (3, .int (nI m4))] [] r w' Q) : Rn G mX3_number 32 [(0, .ref a1), (1, .int (nI m2))] [] w Q := by
  refine r_aload_n 15 33 0 rfl rfl rfl ?_
  refine r_get (v := .int (nI m4)) fl_X3_15_X3 16 36 rfl rfl o1 rfl ?_
  refine r_istore_n (lv' := [(3, .int (nI m4)), (0, .ref a1), (1, .int (nI m2))]) 17 37 rfl rfl (Nat.le_of_ble_eq_true rfl) rfl ?_
  refine r_aload_n 18 38 1 rfl rfl rfl ?_
  refine r_bipush 19 40 rfl rfl db_45 ?_
  exact r_callV lkV_X3_45_X3 (C := RX3) (TT := TX3) (NN := 2) rfl o1 20 43 rfl rfl (by decide) [.int 45] rfl rfl (Nat.le_of_ble_eq_true rfl) (Nat.le_of_ble_eq_true rfl) e2 (fun r w' h => Af.sub [1, 2, 0] rfl (k2 r w' h))
theorem e_X3_number_21 {G : Gm} {κ : Nat → Nat} {φ : Nat → Option Nat} (hS : GS G κ φ) {w : Wd} {Q : Rs → Wd → Prop} {k_k_a1 : Nat} {m1 : Nat} {x2 : Int32} {a3 : Nat} {m4 : Nat} (o1 : Lk G w k_k_a1 (.inl (nX3, [.ref a3, .int (nI m4)]))) {Q2 : Rs → Wd → Prop} (e2 : x2 = 0 → Ev G mX3_want [.ref k_k_a1, .int 0] w Q2) (k2 : x2 = 0 → ∀ r w', Q2 r w' → Af G mX3_number 29 32 [(0, .ref k_k_a1), (1, .int (nI m1))] [] r w' Q) {Q3 : Rs → Wd → Prop} (e3 : ¬ x2 = 0 → Ev G mX3_want [.ref k_k_a1, .int 1] w Q3) (k3 : ¬ x2 = 0 → ∀ r w', Q3 r w' → Af G mX3_number 29 32 [(0, .ref k_k_a1), (1, .int (nI m1))] [] r w' Q) : Rn G mX3_number 21 [(0, .ref k_k_a1), (1, .int (nI m1))] [.int x2, .ref k_k_a1] w Q := by
  refine r_if_eq 10 24 28 rfl rfl rfl (fun c1 => ?_) (fun c1 => ?_)
  · refine r_iconst 13 29 rfl rfl di_0 ?_
    exact r_callV lkV_X3_49_X3 (C := RX3) (TT := TX3) (NN := 2) rfl o1 14 32 rfl rfl (by decide) [.int 0] rfl rfl (Nat.le_of_ble_eq_true rfl) (Nat.le_of_ble_eq_true rfl) (e2 c1) (fun r w' h => Af.sub [0, 1] rfl ((k2 c1) r w' h))
  · refine r_iconst 11 25 rfl rfl di_1 ?_
    refine r_goto 12 29 rfl rfl ?_
    exact r_callV lkV_X3_49_X3 (C := RX3) (TT := TX3) (NN := 2) rfl o1 14 32 rfl rfl (by decide) [.int 1] rfl rfl (Nat.le_of_ble_eq_true rfl) (Nat.le_of_ble_eq_true rfl) (e3 c1) (fun r w' h => Af.sub [0, 1] rfl ((k3 c1) r w' h))
theorem e_X3_number_43 {G : Gm} {κ : Nat → Nat} {φ : Nat → Option Nat} (hS : GS G κ φ) {w : Wd} {Q : Rs → Wd → Prop} {a1 : Nat} {m2 : Nat} {m3 : Nat} {x4 : Int32} {a5 : Nat} {m6 : Nat} (o1 : w.1 a1 = some (.inl (nX3, [.ref a5, .int (nI m6)]))) (k2 : x4 = 0 → Rn G mX3_number 80 [(0, .ref a1), (1, .int (nI m2)), (3, .int (nI m3)), (4, .int x4), (5, .int (nI m6)), (6, .int 0)] [] w Q) {Q3 : Rs → Wd → Prop} (e3 : ¬ x4 = 0 → Ev G mX3_here [.ref a1] (wset w a1 (.inl (nX3, [.ref a5, .int (nI (m6 + 1))]))) Q3) (k3 : ¬ x4 = 0 → ∀ r w', Q3 r w' → Af G mX3_number 62 65 [(0, .ref a1), (1, .int (nI m2)), (3, .int (nI m3)), (4, .int x4)] [.ref a1] r w' Q) : Rn G mX3_number 43 [(0, .ref a1), (1, .int (nI m2)), (3, .int (nI m3))] [.int x4] w Q := by
  refine r_istore (lv' := [(4, .int x4), (0, .ref a1), (1, .int (nI m2)), (3, .int (nI m3))]) 21 45 rfl rfl (Nat.le_of_ble_eq_true rfl) rfl ?_
  refine r_iload 22 47 0 rfl rfl rfl ?_
  refine r_if_eq 23 50 71 rfl rfl rfl (fun c1 => ?_) (fun c1 => ?_)
  · refine r_aload_n 35 72 1 rfl rfl rfl ?_
    refine r_get (v := .int (nI m6)) fl_X3_15_X3 36 75 rfl rfl (Or.inl o1) rfl ?_
    refine r_istore (lv' := [(5, .int (nI m6)), (4, .int x4), (0, .ref a1), (1, .int (nI m2)), (3, .int (nI m3))]) 37 77 rfl rfl (Nat.le_of_ble_eq_true rfl) rfl ?_
    refine r_iconst 38 78 rfl rfl di_0 ?_
    refine r_istore (lv' := [(6, .int 0), (5, .int (nI m6)), (4, .int x4), (0, .ref a1), (1, .int (nI m2)), (3, .int (nI m3))]) 39 80 rfl rfl (Nat.le_of_ble_eq_true rfl) rfl ?_
    exact r_sub [3, 4, 5, 2, 1, 0] rfl (k2 c1)
  · refine r_aload_n 24 51 1 rfl rfl rfl ?_
    refine r_dup 25 52 rfl rfl rfl ?_
    refine r_get (v := .int (nI m6)) fl_X3_15_X3 26 55 rfl rfl (Or.inl o1) rfl ?_
    refine r_iconst 27 56 rfl rfl di_1 ?_
    refine r_iadd 28 57 rfl rfl ?_
    refine x_eq (y := (nI (m6 + 1))) (nI_add _ _) ?_
    refine r_put (i := 1) fl_X3_15_X3 in_X3 q228 (ty0 := tyX3) tyX3_ok nmX3 29 60 rfl rfl o1 rfl rfl rfl (Nat.le_of_ble_eq_true rfl) ?_
    show Rn G mX3_number 60 [(4, .int x4), (0, .ref a1), (1, .int (nI m2)), (3, .int (nI m3))] [] (wset w a1 (.inl (nX3, [.ref a5, .int (nI (m6 + 1))]))) _
    refine r_aload_n 30 61 1 rfl rfl rfl ?_
    refine r_aload_n 31 62 1 rfl rfl rfl ?_
    exact r_callV lkV_X3_32_X3 (C := RX3) (TT := TX3) (NN := 2) rfl (Or.inl wset_s) 32 65 rfl rfl (by decide) [] rfl rfl (Nat.le_of_ble_eq_true rfl) (Nat.le_of_ble_eq_true rfl) (e3 c1) (fun r w' h => Af.sub [1, 2, 3, 0] rfl ((k3 c1) r w' h))
theorem e_X3_number_80 {G : Gm} {κ : Nat → Nat} {φ : Nat → Option Nat} (hS : GS G κ φ) {w : Wd} {Q : Rs → Wd → Prop} {a1 : Nat} {m2 : Nat} {m3 : Nat} {x4 : Int32} {m5 : Nat} {x6 : Int32} {a7 : Nat} {m8 : Nat} {a9 : Nat} {x10 : Int32} {m11 : Nat} {n12 : Nat} {g13 : Nat → Nat} (o1 : w.1 a1 = some (.inl (nX3, [.ref a7, .int (nI m8)]))) (o2 : Lk G w a7 (.inl (nJ1, [.ref a9, .int 0, .int x10, .int (nI m11)]))) (bd3 : m8 < 2 ^ 31) (bd4 : m11 < 2 ^ 31) (b5 : m11 ≤ m8 → m5 ≤ m8) (bd6 : m2 < 2 ^ 31) {Q7 : Rs → Wd → Prop} (e7 : m11 ≤ m8 → m2 < (m8 - m5) → Ev G mX3_want_2 [.ref a1, .int 0, .int (nI m3)] w Q7) (k7 : m11 ≤ m8 → m2 < (m8 - m5) → ∀ r w', Q7 r w' → Af G mX3_number 181 184 [(4, .int x4), (6, .int x6)] [] r w' Q) {Q8 : Rs → Wd → Prop} (e8 : m11 ≤ m8 → ¬ m2 < (m8 - m5) → Ev G mX3_want_2 [.ref a1, .int 1, .int (nI m3)] w Q8) (k8 : m11 ≤ m8 → ¬ m2 < (m8 - m5) → ∀ r w', Q8 r w' → Af G mX3_number 181 184 [(4, .int x4), (6, .int x6)] [] r w' Q) (o9 : Lk G w a9 (arB n12 g13)) (b10 : ¬ m11 ≤ m8 → n12 < 2 ^ 31) (f11 : ¬ m11 ≤ m8 → ¬ n12 < m11) (q12 : ¬ m11 ≤ m8 → (g13 m8) < 128) (b13 : ¬ m11 ≤ m8 → (g13 m8) < 2 ^ 31) (b14 : ¬ m11 ≤ m8 → (g13 m8) < 48 → m5 ≤ m8) {Q15 : Rs → Wd → Prop} (e15 : ¬ m11 ≤ m8 → (g13 m8) < 48 → m2 < (m8 - m5) → Ev G mX3_want_2 [.ref a1, .int 0, .int (nI m3)] w Q15) (k15 : ¬ m11 ≤ m8 → (g13 m8) < 48 → m2 < (m8 - m5) → ∀ r w', Q15 r w' → Af G mX3_number 181 184 [(4, .int x4), (6, .int x6)] [] r w' Q) {Q16 : Rs → Wd → Prop} (e16 : ¬ m11 ≤ m8 → (g13 m8) < 48 → ¬ m2 < (m8 - m5) → Ev G mX3_want_2 [.ref a1, .int 1, .int (nI m3)] w Q16) (k16 : ¬ m11 ≤ m8 → (g13 m8) < 48 → ¬ m2 < (m8 - m5) → ∀ r w', Q16 r w' → Af G mX3_number 181 184 [(4, .int x4), (6, .int x6)] [] r w' Q) (b17 : ¬ m11 ≤ m8 → ¬ (g13 m8) < 48 → 57 < (g13 m8) → m5 ≤ m8) {Q18 : Rs → Wd → Prop} (e18 : ¬ m11 ≤ m8 → ¬ (g13 m8) < 48 → 57 < (g13 m8) → m2 < (m8 - m5) → Ev G mX3_want_2 [.ref a1, .int 0, .int (nI m3)] w Q18) (k18 : ¬ m11 ≤ m8 → ¬ (g13 m8) < 48 → 57 < (g13 m8) → m2 < (m8 - m5) → ∀ r w', Q18 r w' → Af G mX3_number 181 184 [(4, .int x4), (6, .int x6)] [] r w' Q) {Q19 : Rs → Wd → Prop} (e19 : ¬ m11 ≤ m8 → ¬ (g13 m8) < 48 → 57 < (g13 m8) → ¬ m2 < (m8 - m5) → Ev G mX3_want_2 [.ref a1, .int 1, .int (nI m3)] w Q19) (k19 : ¬ m11 ≤ m8 → ¬ (g13 m8) < 48 → 57 < (g13 m8) → ¬ m2 < (m8 - m5) → ∀ r w', Q19 r w' → Af G mX3_number 181 184 [(4, .int x4), (6, .int x6)] [] r w' Q) (b20 : ¬ m11 ≤ m8 → ¬ (g13 m8) < 48 → ¬ 57 < (g13 m8) → m5 ≤ m8) (k21 : ¬ m11 ≤ m8 → ¬ (g13 m8) < 48 → ¬ 57 < (g13 m8) → 9 ≤ (m8 - m5) → Rn G mX3_number 80 [(0, .ref a1), (1, .int (nI m2)), (3, .int (nI m3)), (4, .int x4), (5, .int (nI m5)), (6, .int x6)] [] (wset w a1 (.inl (nX3, [.ref a7, .int (nI (m8 + 1))]))) Q) (k22 : ¬ m11 ≤ m8 → ¬ (g13 m8) < 48 → ¬ 57 < (g13 m8) → ¬ 9 ≤ (m8 - m5) → Rn G mX3_number 80 [(0, .ref a1), (1, .int (nI m2)), (3, .int (nI m3)), (4, .int x4), (5, .int (nI m5)), (6, .int ((((10 : Int32) * x6) + (nI (g13 m8))) - (48 : Int32)))] [] (wset w a1 (.inl (nX3, [.ref a7, .int (nI (m8 + 1))]))) Q) : Rn G mX3_number 80 [(0, .ref a1), (1, .int (nI m2)), (3, .int (nI m3)), (4, .int x4), (5, .int (nI m5)), (6, .int x6)] [] w Q := by
  refine r_aload_n 40 81 0 rfl rfl rfl ?_
  refine r_get (v := .int (nI m8)) fl_X3_15_X3 41 84 rfl rfl (Or.inl o1) rfl ?_
  refine r_aload_n 42 85 0 rfl rfl rfl ?_
  refine r_get (v := .ref a7) fl_X3_9_X3 43 88 rfl rfl (Or.inl o1) rfl ?_
  refine r_callV lkV_X3_19_J1 (C := RJ1) (TT := TJ1) (NN := 4) rfl o2 44 91 rfl rfl (by decide) [] rfl rfl (Nat.le_of_ble_eq_true rfl) (Nat.le_of_ble_eq_true rfl) (e_J1_length hS (m4 := m11) (o1 := o2) (k2 := ?_)) (fun _ _ h => h)
  show Rn G mX3_number 91 [(0, .ref a1), (1, .int (nI m2)), (3, .int (nI m3)), (4, .int x4), (5, .int (nI m5)), (6, .int x6)] [.int (nI m11), .int (nI m8)] w _
  refine y_icmp_ge (a := m8) (b := m11) bd3 bd4 45 94 163 rfl rfl rfl (fun c1 => ?_) (fun c1 => ?_)
  · refine r_aload_n 80 164 0 rfl rfl rfl ?_
    refine r_aload_n 81 165 0 rfl rfl rfl ?_
    refine r_get (v := .int (nI m8)) fl_X3_15_X3 82 168 rfl rfl (Or.inl o1) rfl ?_
    refine r_iload 83 170 4 rfl rfl rfl ?_
    refine r_isub 84 171 rfl rfl ?_
    refine x_eq (y := (nI (m8 - m5))) (pk_sub (a := m8) (b := m5) (b5 c1)) ?_
    refine r_iload_n 85 172 1 rfl rfl rfl ?_
    refine y_icmp_gt (a := (m8 - m5)) (b := m2) (by omega) bd6 86 175 179 rfl rfl rfl (fun c2 => ?_) (fun c2 => ?_)
    · refine r_iconst 89 180 rfl rfl di_0 ?_
      refine r_iload_n 90 181 2 rfl rfl rfl ?_
      exact r_callV lkV_X3_41_X3 (C := RX3) (TT := TX3) (NN := 2) rfl (Or.inl o1) 91 184 rfl rfl (by decide) [.int 0, .int (nI m3)] rfl rfl (Nat.le_of_ble_eq_true rfl) (Nat.le_of_ble_eq_true rfl) (e7 c1 c2) (fun r w' h => Af.sub [3, 5] rfl ((k7 c1 c2) r w' h))
    · refine r_iconst 87 176 rfl rfl di_1 ?_
      refine r_goto 88 180 rfl rfl ?_
      refine r_iload_n 90 181 2 rfl rfl rfl ?_
      exact r_callV lkV_X3_41_X3 (C := RX3) (TT := TX3) (NN := 2) rfl (Or.inl o1) 91 184 rfl rfl (by decide) [.int 1, .int (nI m3)] rfl rfl (Nat.le_of_ble_eq_true rfl) (Nat.le_of_ble_eq_true rfl) (e8 c1 c2) (fun r w' h => Af.sub [3, 5] rfl ((k8 c1 c2) r w' h))
  · refine r_aload_n 46 95 0 rfl rfl rfl ?_
    refine r_get (v := .ref a7) fl_X3_9_X3 47 98 rfl rfl (Or.inl o1) rfl ?_
    refine r_aload_n 48 99 0 rfl rfl rfl ?_
    refine r_get (v := .int (nI m8)) fl_X3_15_X3 49 102 rfl rfl (Or.inl o1) rfl ?_
    refine r_callV lkV_X3_25_J1 (C := RJ1) (TT := TJ1) (NN := 4) rfl o2 50 105 rfl rfl (by decide) [.int (nI m8)] rfl rfl (Nat.le_of_ble_eq_true rfl) (Nat.le_of_ble_eq_true rfl) (e_J1_charAt hS (m5 := m11) (m2 := m8) (o1 := o2) (o2 := o9) (b3 := (by omega)) (b4 := (b10 c1)) (f5 := (f11 c1)) (b6 := (by omega)) (f7 := (by omega)) (q8 := (q12 c1)) (k9 := ?_)) (fun _ _ h => h)
    show Rn G mX3_number 105 [(0, .ref a1), (1, .int (nI m2)), (3, .int (nI m3)), (4, .int x4), (5, .int (nI m5)), (6, .int x6)] [.int (nI (g13 m8))] w _
    refine r_callS lkS_X3_59 51 108 rfl rfl (by decide) [.int (nI (g13 m8))] rfl rfl (Nat.le_of_ble_eq_true rfl) (Nat.le_of_ble_eq_true rfl) (e_X3_isDigit hS (m1 := (g13 m8)) (bd1 := (b13 c1)) (k2 := fun z1_0 => ?_) (k3 := fun z1_0 => fun z1_1 => ?_) (k4 := fun z1_0 => fun z1_1 => ?_)) (fun _ _ h => h)
    · show Rn G mX3_number 108 [(0, .ref a1), (1, .int (nI m2)), (3, .int (nI m3)), (4, .int x4), (5, .int (nI m5)), (6, .int x6)] [.int 0] w _
      refine r_if_eq 52 111 163 rfl rfl rfl (fun _ => ?_) (fun c => absurd c (by decide))
      refine r_aload_n 80 164 0 rfl rfl rfl ?_
      refine r_aload_n 81 165 0 rfl rfl rfl ?_
      refine r_get (v := .int (nI m8)) fl_X3_15_X3 82 168 rfl rfl (Or.inl o1) rfl ?_
      refine r_iload 83 170 4 rfl rfl rfl ?_
      refine r_isub 84 171 rfl rfl ?_
      refine x_eq (y := (nI (m8 - m5))) (pk_sub (a := m8) (b := m5) (b14 c1 z1_0)) ?_
      refine r_iload_n 85 172 1 rfl rfl rfl ?_
      refine y_icmp_gt (a := (m8 - m5)) (b := m2) (by omega) (by omega) 86 175 179 rfl rfl rfl (fun c3 => ?_) (fun c3 => ?_)
      · refine r_iconst 89 180 rfl rfl di_0 ?_
        refine r_iload_n 90 181 2 rfl rfl rfl ?_
        exact r_callV lkV_X3_41_X3 (C := RX3) (TT := TX3) (NN := 2) rfl (Or.inl o1) 91 184 rfl rfl (by decide) [.int 0, .int (nI m3)] rfl rfl (Nat.le_of_ble_eq_true rfl) (Nat.le_of_ble_eq_true rfl) (e15 c1 z1_0 c3) (fun r w' h => Af.sub [3, 5] rfl ((k15 c1 z1_0 c3) r w' h))
      · refine r_iconst 87 176 rfl rfl di_1 ?_
        refine r_goto 88 180 rfl rfl ?_
        refine r_iload_n 90 181 2 rfl rfl rfl ?_
        exact r_callV lkV_X3_41_X3 (C := RX3) (TT := TX3) (NN := 2) rfl (Or.inl o1) 91 184 rfl rfl (by decide) [.int 1, .int (nI m3)] rfl rfl (Nat.le_of_ble_eq_true rfl) (Nat.le_of_ble_eq_true rfl) (e16 c1 z1_0 c3) (fun r w' h => Af.sub [3, 5] rfl ((k16 c1 z1_0 c3) r w' h))
    · show Rn G mX3_number 108 [(0, .ref a1), (1, .int (nI m2)), (3, .int (nI m3)), (4, .int x4), (5, .int (nI m5)), (6, .int x6)] [.int 0] w _
      refine r_if_eq 52 111 163 rfl rfl rfl (fun _ => ?_) (fun c => absurd c (by decide))
      refine r_aload_n 80 164 0 rfl rfl rfl ?_
      refine r_aload_n 81 165 0 rfl rfl rfl ?_
      refine r_get (v := .int (nI m8)) fl_X3_15_X3 82 168 rfl rfl (Or.inl o1) rfl ?_
      refine r_iload 83 170 4 rfl rfl rfl ?_
      refine r_isub 84 171 rfl rfl ?_
      refine x_eq (y := (nI (m8 - m5))) (pk_sub (a := m8) (b := m5) (b17 c1 z1_0 z1_1)) ?_
      refine r_iload_n 85 172 1 rfl rfl rfl ?_
      refine y_icmp_gt (a := (m8 - m5)) (b := m2) (by omega) (by omega) 86 175 179 rfl rfl rfl (fun c4 => ?_) (fun c4 => ?_)
      · refine r_iconst 89 180 rfl rfl di_0 ?_
        refine r_iload_n 90 181 2 rfl rfl rfl ?_
        exact r_callV lkV_X3_41_X3 (C := RX3) (TT := TX3) (NN := 2) rfl (Or.inl o1) 91 184 rfl rfl (by decide) [.int 0, .int (nI m3)] rfl rfl (Nat.le_of_ble_eq_true rfl) (Nat.le_of_ble_eq_true rfl) (e18 c1 z1_0 z1_1 c4) (fun r w' h => Af.sub [3, 5] rfl ((k18 c1 z1_0 z1_1 c4) r w' h))
      · refine r_iconst 87 176 rfl rfl di_1 ?_
        refine r_goto 88 180 rfl rfl ?_
        refine r_iload_n 90 181 2 rfl rfl rfl ?_
        exact r_callV lkV_X3_41_X3 (C := RX3) (TT := TX3) (NN := 2) rfl (Or.inl o1) 91 184 rfl rfl (by decide) [.int 1, .int (nI m3)] rfl rfl (Nat.le_of_ble_eq_true rfl) (Nat.le_of_ble_eq_true rfl) (e19 c1 z1_0 z1_1 c4) (fun r w' h => Af.sub [3, 5] rfl ((k19 c1 z1_0 z1_1 c4) r w' h))
    · show Rn G mX3_number 108 [(0, .ref a1), (1, .int (nI m2)), (3, .int (nI m3)), (4, .int x4), (5, .int (nI m5)), (6, .int x6)] [.int 1] w _
      refine r_if_eq 52 111 163 rfl rfl rfl (fun c => absurd c (by decide)) (fun _ => ?_)
      refine r_aload_n 53 112 0 rfl rfl rfl ?_
      refine r_get (v := .int (nI m8)) fl_X3_15_X3 54 115 rfl rfl (Or.inl o1) rfl ?_
      refine r_iload 55 117 4 rfl rfl rfl ?_
      refine r_isub 56 118 rfl rfl ?_
      refine x_eq (y := (nI (m8 - m5))) (pk_sub (a := m8) (b := m5) (b20 c1 z1_0 z1_1)) ?_
      refine r_bipush 57 120 rfl rfl db_9 ?_
      refine y_icmp_ge (a := (m8 - m5)) (b := 9) (by omega) (by decide) 58 123 146 rfl rfl rfl (fun c4 => ?_) (fun c4 => ?_)
      · refine r_iload 71 148 5 rfl rfl rfl ?_
        refine r_istore (lv' := [(6, .int x6), (0, .ref a1), (1, .int (nI m2)), (3, .int (nI m3)), (4, .int x4), (5, .int (nI m5))]) 72 150 rfl rfl (Nat.le_of_ble_eq_true rfl) rfl ?_
        refine r_aload_n 73 151 1 rfl rfl rfl ?_
        refine r_dup 74 152 rfl rfl rfl ?_
        refine r_get (v := .int (nI m8)) fl_X3_15_X3 75 155 rfl rfl (Or.inl o1) rfl ?_
        refine r_iconst 76 156 rfl rfl di_1 ?_
        refine r_iadd 77 157 rfl rfl ?_
        refine x_eq (y := (nI (m8 + 1))) (nI_add _ _) ?_
        refine r_put (i := 1) fl_X3_15_X3 in_X3 q228 (ty0 := tyX3) tyX3_ok nmX3 78 160 rfl rfl o1 rfl rfl rfl (Nat.le_of_ble_eq_true rfl) ?_
        show Rn G mX3_number 160 [(6, .int x6), (0, .ref a1), (1, .int (nI m2)), (3, .int (nI m3)), (4, .int x4), (5, .int (nI m5))] [] (wset w a1 (.inl (nX3, [.ref a7, .int (nI (m8 + 1))]))) _
        refine r_goto 79 80 rfl rfl ?_
        exact r_sub [1, 2, 3, 4, 5, 0] rfl (k21 c1 z1_0 z1_1 c4)
      · refine r_bipush 59 125 rfl rfl db_10 ?_
        refine r_iload 60 127 5 rfl rfl rfl ?_
        refine r_imul 61 128 rfl rfl ?_
        refine r_aload_n 62 129 0 rfl rfl rfl ?_
        refine r_get (v := .ref a7) fl_X3_9_X3 63 132 rfl rfl (Or.inl o1) rfl ?_
        refine r_aload_n 64 133 0 rfl rfl rfl ?_
        refine r_get (v := .int (nI m8)) fl_X3_15_X3 65 136 rfl rfl (Or.inl o1) rfl ?_
        refine r_callV lkV_X3_25_J1 (C := RJ1) (TT := TJ1) (NN := 4) rfl o2 66 139 rfl rfl (by decide) [.int (nI m8)] rfl rfl (Nat.le_of_ble_eq_true rfl) (Nat.le_of_ble_eq_true rfl) (e_J1_charAt hS (m5 := m11) (m2 := m8) (o1 := o2) (o2 := o9) (b3 := (by omega)) (b4 := (b10 c1)) (f5 := (f11 c1)) (b6 := (by omega)) (f7 := (by omega)) (q8 := (q12 c1)) (k9 := ?_)) (fun _ _ h => h)
        show Rn G mX3_number 139 [(0, .ref a1), (1, .int (nI m2)), (3, .int (nI m3)), (4, .int x4), (5, .int (nI m5)), (6, .int x6)] [.int (nI (g13 m8)), .int ((10 : Int32) * x6)] w _
        refine r_iadd 67 140 rfl rfl ?_
        refine r_bipush 68 142 rfl rfl db_48 ?_
        refine r_isub 69 143 rfl rfl ?_
        refine r_goto 70 148 rfl rfl ?_
        refine r_istore (lv' := [(6, .int ((((10 : Int32) * x6) + (nI (g13 m8))) - (48 : Int32))), (0, .ref a1), (1, .int (nI m2)), (3, .int (nI m3)), (4, .int x4), (5, .int (nI m5))]) 72 150 rfl rfl (Nat.le_of_ble_eq_true rfl) rfl ?_
        refine r_aload_n 73 151 1 rfl rfl rfl ?_
        refine r_dup 74 152 rfl rfl rfl ?_
        refine r_get (v := .int (nI m8)) fl_X3_15_X3 75 155 rfl rfl (Or.inl o1) rfl ?_
        refine r_iconst 76 156 rfl rfl di_1 ?_
        refine r_iadd 77 157 rfl rfl ?_
        refine x_eq (y := (nI (m8 + 1))) (nI_add _ _) ?_
        refine r_put (i := 1) fl_X3_15_X3 in_X3 q228 (ty0 := tyX3) tyX3_ok nmX3 78 160 rfl rfl o1 rfl rfl rfl (Nat.le_of_ble_eq_true rfl) ?_
        show Rn G mX3_number 160 [(6, .int ((((10 : Int32) * x6) + (nI (g13 m8))) - (48 : Int32))), (0, .ref a1), (1, .int (nI m2)), (3, .int (nI m3)), (4, .int x4), (5, .int (nI m5))] [] (wset w a1 (.inl (nX3, [.ref a7, .int (nI (m8 + 1))]))) _
        refine r_goto 79 80 rfl rfl ?_
        exact r_sub [1, 2, 3, 4, 5, 0] rfl (k22 c1 z1_0 z1_1 c4)
theorem e_X3_number_65 {G : Gm} {κ : Nat → Nat} {φ : Nat → Option Nat} (hS : GS G κ φ) {w : Wd} {Q : Rs → Wd → Prop} {k_a1 : Nat} {m1 : Nat} {m2 : Nat} {x3 : Int32} {m4 : Nat} {a5 : Nat} {m6 : Nat} (b1 : m4 < 2 ^ 31) (o2 : Lk G w k_a1 (.inl (nX3, [.ref a5, .int (nI m6)]))) {Q3 : Rs → Wd → Prop} (e3 : m4 < 48 → Ev G mX3_want [.ref k_a1, .int 0] w Q3) (k3 : m4 < 48 → ∀ r w', Q3 r w' → Af G mX3_number 68 71 [(0, .ref k_a1), (1, .int (nI m1)), (3, .int (nI m2)), (4, .int x3)] [] r w' Q) {Q4 : Rs → Wd → Prop} (e4 : ¬ m4 < 48 → 57 < m4 → Ev G mX3_want [.ref k_a1, .int 0] w Q4) (k4 : ¬ m4 < 48 → 57 < m4 → ∀ r w', Q4 r w' → Af G mX3_number 68 71 [(0, .ref k_a1), (1, .int (nI m1)), (3, .int (nI m2)), (4, .int x3)] [] r w' Q) {Q5 : Rs → Wd → Prop} (e5 : ¬ m4 < 48 → ¬ 57 < m4 → Ev G mX3_want [.ref k_a1, .int 1] w Q5) (k5 : ¬ m4 < 48 → ¬ 57 < m4 → ∀ r w', Q5 r w' → Af G mX3_number 68 71 [(0, .ref k_a1), (1, .int (nI m1)), (3, .int (nI m2)), (4, .int x3)] [] r w' Q) : Rn G mX3_number 65 [(0, .ref k_a1), (1, .int (nI m1)), (3, .int (nI m2)), (4, .int x3)] [.int (nI m4), .ref k_a1] w Q := by
  refine r_callS lkS_X3_59 33 68 rfl rfl (by decide) [.int (nI m4)] rfl rfl (Nat.le_of_ble_eq_true rfl) (Nat.le_of_ble_eq_true rfl) (e_X3_isDigit hS (m1 := m4) (bd1 := b1) (k2 := fun z0_0 => ?_) (k3 := fun z0_0 => fun z0_1 => ?_) (k4 := fun z0_0 => fun z0_1 => ?_)) (fun _ _ h => h)
  · show Rn G mX3_number 68 [(0, .ref k_a1), (1, .int (nI m1)), (3, .int (nI m2)), (4, .int x3)] [.int 0, .ref k_a1] w _
    exact r_callV lkV_X3_49_X3 (C := RX3) (TT := TX3) (NN := 2) rfl o2 34 71 rfl rfl (by decide) [.int 0] rfl rfl (Nat.le_of_ble_eq_true rfl) (Nat.le_of_ble_eq_true rfl) (e3 z0_0) (fun r w' h => Af.sub [0, 1, 2, 3] rfl ((k3 z0_0) r w' h))
  · show Rn G mX3_number 68 [(0, .ref k_a1), (1, .int (nI m1)), (3, .int (nI m2)), (4, .int x3)] [.int 0, .ref k_a1] w _
    exact r_callV lkV_X3_49_X3 (C := RX3) (TT := TX3) (NN := 2) rfl o2 34 71 rfl rfl (by decide) [.int 0] rfl rfl (Nat.le_of_ble_eq_true rfl) (Nat.le_of_ble_eq_true rfl) (e4 z0_0 z0_1) (fun r w' h => Af.sub [0, 1, 2, 3] rfl ((k4 z0_0 z0_1) r w' h))
  · show Rn G mX3_number 68 [(0, .ref k_a1), (1, .int (nI m1)), (3, .int (nI m2)), (4, .int x3)] [.int 1, .ref k_a1] w _
    exact r_callV lkV_X3_49_X3 (C := RX3) (TT := TX3) (NN := 2) rfl o2 34 71 rfl rfl (by decide) [.int 1] rfl rfl (Nat.le_of_ble_eq_true rfl) (Nat.le_of_ble_eq_true rfl) (e5 z0_0 z0_1) (fun r w' h => Af.sub [0, 1, 2, 3] rfl ((k5 z0_0 z0_1) r w' h))
theorem e_X3_number_184 {G : Gm} {κ : Nat → Nat} {φ : Nat → Option Nat} (hS : GS G κ φ) {w : Wd} {Q : Rs → Wd → Prop} {x1 : Int32} {x2 : Int32} (k1 : x1 = 0 → Q (.inl (some (.int x2))) w) (k2 : ¬ x1 = 0 → Q (.inl (some (.int (-x2)))) w) : Rn G mX3_number 184 [(4, .int x1), (6, .int x2)] [] w Q := by
  refine r_iload 92 186 0 rfl rfl rfl ?_
  refine r_if_eq 93 189 195 rfl rfl rfl (fun c1 => ?_) (fun c1 => ?_)
  · refine r_iload 97 197 1 rfl rfl rfl ?_
    exact r_iret 98 rfl rfl rfl (k1 c1)
  · refine r_iload 94 191 1 rfl rfl rfl ?_
    refine r_ineg 95 192 rfl rfl ?_
    refine r_goto 96 197 rfl rfl ?_
    exact r_iret 98 rfl rfl rfl (k2 c1)
theorem e_X3_number_71 {G : Gm} {κ : Nat → Nat} {φ : Nat → Option Nat} (hS : GS G κ φ) {w : Wd} {Q : Rs → Wd → Prop} {a1 : Nat} {m2 : Nat} {m3 : Nat} {x4 : Int32} {a5 : Nat} {m6 : Nat} (o1 : Lk G w a1 (.inl (nX3, [.ref a5, .int (nI m6)]))) (k2 : Rn G mX3_number 80 [(0, .ref a1), (1, .int (nI m2)), (3, .int (nI m3)), (4, .int x4), (5, .int (nI m6)), (6, .int 0)] [] w Q) : Rn G mX3_number 71 [(0, .ref a1), (1, .int (nI m2)), (3, .int (nI m3)), (4, .int x4)] [] w Q := by
  refine r_aload_n 35 72 0 rfl rfl rfl ?_
  refine r_get (v := .int (nI m6)) fl_X3_15_X3 36 75 rfl rfl o1 rfl ?_
  refine r_istore (lv' := [(5, .int (nI m6)), (0, .ref a1), (1, .int (nI m2)), (3, .int (nI m3)), (4, .int x4)]) 37 77 rfl rfl (Nat.le_of_ble_eq_true rfl) rfl ?_
  refine r_iconst 38 78 rfl rfl di_0 ?_
  refine r_istore (lv' := [(6, .int 0), (5, .int (nI m6)), (0, .ref a1), (1, .int (nI m2)), (3, .int (nI m3)), (4, .int x4)]) 39 80 rfl rfl (Nat.le_of_ble_eq_true rfl) rfl ?_
  exact r_sub [2, 3, 4, 5, 1, 0] rfl k2
