set_option maxRecDepth 100000
theorem fl_J8_13_J8 : FL RJ8 13 nJ8 5 RJ8 TJ8 9 := ⟨rfl, by decide, _, q187, Or.inl rfl⟩
theorem fl_J8_16_J8 : FL RJ8 16 nJ8 2 RJ8 TJ8 9 := ⟨rfl, by decide, _, q184, Or.inl rfl⟩
theorem fl_J8_101_J8 : FL RJ8 101 nJ8 3 RJ8 TJ8 9 := ⟨rfl, by decide, _, q185, Or.inl rfl⟩
theorem fl_J8_105_J29 : FL RJ8 105 nJ29 0 RJ29 TJ29 6 := ⟨rfl, by decide, _, q1334, Or.inl rfl⟩
theorem fl_J8_114_J29 : FL RJ8 114 nJ29 3 RJ29 TJ29 6 := ⟨rfl, by decide, _, q1338, Or.inl rfl⟩
theorem fl_J8_111_J29 : FL RJ8 111 nJ29 2 RJ29 TJ29 6 := ⟨rfl, by decide, _, q1337, Or.inl rfl⟩
theorem fl_J8_58_J29 : FL RJ8 58 nJ29 1 RJ29 TJ29 6 := ⟨rfl, by decide, _, q1336, Or.inl rfl⟩
theorem fl_J29_9_J29 : FL RJ29 9 nJ29 5 RJ29 TJ29 6 := ⟨rfl, by decide, _, q1341, Or.inl rfl⟩
theorem fl_J29_22_J29 : FL RJ29 22 nJ29 4 RJ29 TJ29 6 := ⟨rfl, by decide, _, q1339, Or.inl rfl⟩
theorem fl_J8_124_J29 : FL RJ8 124 nJ29 4 RJ29 TJ29 6 := ⟨rfl, by decide, _, q1340, Or.inl rfl⟩
theorem fl_J31_1_J31 : FL RJ31 1 nJ31 0 RJ31 TJ31 1 := ⟨rfl, by decide, _, q1432, Or.inl rfl⟩
theorem fl_J8_188_J8 : FL RJ8 188 nJ8 6 RJ8 TJ8 9 := ⟨rfl, by decide, _, q189, Or.inl rfl⟩
theorem fl_J32_1_J33 : FL RJ32 1 nJ33 3 RJ33 TJ33 4 := ⟨rfl, by decide, _, q1462, Or.inl rfl⟩
theorem fl_J32_19_J33 : FL RJ32 19 nJ33 2 RJ33 TJ33 4 := ⟨rfl, by decide, _, q1461, Or.inl rfl⟩
theorem fl_J32_22_J33 : FL RJ32 22 nJ33 1 RJ33 TJ33 4 := ⟨rfl, by decide, _, q1460, Or.inl rfl⟩
theorem fl_J32_26_J33 : FL RJ32 26 nJ33 0 RJ33 TJ33 4 := ⟨rfl, by decide, _, q1459, Or.inl rfl⟩
theorem lkI_J8_1 : LkI RJ8 1 mJ7_init 0 := ⟨okJ7_init, q180, q181, rfl, rfl, rfl, ⟨by decide, by decide⟩, by decide +kernel⟩
theorem lkS_J20_259 : LkS RJ20 259 mJ20_compare 2 := ⟨okJ20_compare, q1007, q1008, ⟨by decide, by decide⟩, by decide +kernel⟩
theorem lkV_J20_284_J20 : LkV RJ20 284 RJ20 mJ20_compareTo_2 1 := ⟨okJ20_compareTo_2, q1003, q1004, q1005, ⟨by decide, by decide⟩, by decide +kernel⟩
theorem lkS_J8_95 : LkS RJ8 95 mJ25_requireNonNull 1 := ⟨okJ25_requireNonNull, q971, q972, ⟨by decide, by decide⟩, by decide +kernel⟩
theorem lkF_J8_107_J20 : LkF RJ8 107 RJ20 ⟨"java/lang/Comparable", "compareTo", "(Ljava/lang/Object;)I"⟩ mJ20_compareTo 1 := ⟨okJ20_compareTo, q976, q998, q1000, q978, q977, q1001, q999, q997, ⟨by decide, by decide⟩, by decide +kernel⟩
theorem lkV_J8_50_J8 : LkV RJ8 50 RJ8 mJ8_getEntry 1 := ⟨okJ8_getEntry, q959, q960, q961, ⟨by decide, by decide⟩, by decide +kernel⟩
theorem lkV_J8_123_J8 : LkV RJ8 123 RJ8 mJ8_compare 2 := ⟨okJ8_compare, q1323, q1324, q1325, ⟨by decide, by decide⟩, by decide +kernel⟩
theorem lkI_J8_167 : LkI RJ8 167 mJ29_init 3 := ⟨okJ29_init, q1329, q1330, rfl, rfl, rfl, ⟨by decide, by decide⟩, by decide +kernel⟩
theorem lkV_J8_135_J8 : LkV RJ8 135 RJ8 mJ8_addEntryToEmptyMap 2 := ⟨okJ8_addEntryToEmptyMap, q1319, q1321, qs14, ⟨by decide, by decide⟩, by decide +kernel⟩
theorem lkV_J8_139_J8 : LkV RJ8 139 RJ8 mJ8_addEntry 4 := ⟨okJ8_addEntry, q1356, q1358, qs15, ⟨by decide, by decide⟩, by decide +kernel⟩
theorem lkV_J8_127_J8 : LkV RJ8 127 RJ8 mJ8_put_2 3 := ⟨okJ8_put_2, q1315, q1317, qs13, ⟨by decide, by decide⟩, by decide +kernel⟩
theorem lkV_J8_170_J8 : LkV RJ8 170 RJ8 mJ8_fixAfterInsertion 1 := ⟨okJ8_fixAfterInsertion, q1360, q1362, qs16, ⟨by decide, by decide⟩, by decide +kernel⟩
theorem lkI_J30_1 : LkI RJ30 1 mJ4_init 0 := ⟨okJ4_init, q1431, q155, rfl, rfl, rfl, ⟨by decide, by decide⟩, by decide +kernel⟩
theorem lkI_J31_7 : LkI RJ31 7 mJ30_init 0 := ⟨okJ30_init, q1428, q1429, rfl, rfl, rfl, ⟨by decide, by decide⟩, by decide +kernel⟩
theorem lkI_J8_244 : LkI RJ8 244 mJ31_init 1 := ⟨okJ31_init, q1425, q1426, rfl, rfl, rfl, ⟨by decide, by decide⟩, by decide +kernel⟩
theorem lkI_J33_1 : LkI RJ33 1 mJ32_init 2 := ⟨okJ32_init, q1455, q1456, rfl, rfl, rfl, ⟨by decide, by decide⟩, by decide +kernel⟩
theorem lkV_J31_15_J8 : LkV RJ31 15 RJ8 mJ8_getFirstEntry 0 := ⟨okJ8_getFirstEntry, q1448, q1449, q1450, ⟨by decide, by decide⟩, by decide +kernel⟩
theorem lkI_J31_21 : LkI RJ31 21 mJ33_init 2 := ⟨okJ33_init, q1452, q1453, rfl, rfl, rfl, ⟨by decide, by decide⟩, by decide +kernel⟩
theorem lkS_J32_35 : LkS RJ32 35 mJ8_successor 1 := ⟨okJ8_successor, q724, q725, ⟨by decide, by decide⟩, by decide +kernel⟩
theorem lkU_J33_7_J33 : LkU RJ33 7 RJ33 "java/util/TreeMap$PrivateEntryIterator" ⟨"java/util/TreeMap$EntryIterator", "nextEntry", "()Ljava/util/TreeMap$Entry;"⟩ mJ32_nextEntry 0 := ⟨okJ32_nextEntry, q718, q719, q721, q722, Or.inr q720, ⟨by decide, by decide⟩, by decide +kernel⟩
theorem lkV_J33_13_J33 : LkV RJ33 13 RJ33 mJ33_next_2 0 := ⟨okJ33_next_2, q714, q715, q716, ⟨by decide, by decide⟩, by decide +kernel⟩
theorem e_J7_init {G : Gm} {κ : Nat → Nat} {φ : Nat → Option Nat} (hS : GS G κ φ) {w : Wd} {Q : Rs → Wd → Prop} {a1 : Nat} (k1 : Q (.inl none) w) : Ev G mJ7_init [.ref a1] w Q := by
  show Rn G mJ7_init 0 [(0, .ref a1)] [] w Q
  refine r_aload_n 0 1 0 rfl rfl rfl ?_
  refine r_objInit q183 q111 q112 1 4 rfl rfl (by decide) (Nat.le_of_ble_eq_true rfl) ?_
  exact r_vret 2 rfl rfl k1
theorem e_J8_init {G : Gm} {κ : Nat → Nat} {φ : Nat → Option Nat} (hS : GS G κ φ) {w : Wd} {Q : Rs → Wd → Prop} {a1 : Nat} (o1 : w.1 a1 = some (.inl (nJ8, [.null, .null, .null, .null, .int 0, .int 0, .null, .null, .null]))) (k2 : Q (.inl none) (wset w a1 (.inl (nJ8, [.null, .null, .null, .null, .int 0, .int 0, .null, .null, .null])))) : Ev G mJ8_init [.ref a1] w Q := by
  show Rn G mJ8_init 0 [(0, .ref a1)] [] w Q
  refine r_aload_n 0 1 0 rfl rfl rfl ?_
  refine r_callI lkI_J8_1 1 4 rfl rfl (by decide) [] rfl rfl (Nat.le_of_ble_eq_true rfl) (Nat.le_of_ble_eq_true rfl) (e_J7_init hS (k1 := ?_)) (fun _ _ h => h)
  show Rn G mJ8_init 4 [(0, .ref a1)] [] w _
  refine r_aload_n 2 5 0 rfl rfl rfl ?_
  refine r_iconst 3 6 rfl rfl di_0 ?_
  refine r_put (i := 4) fl_J8_7_J8 in_J8 q176 (ty0 := tyJ8) tyJ8_ok nmJ8 4 9 rfl rfl o1 rfl rfl rfl (Nat.le_of_ble_eq_true rfl) ?_
  show Rn G mJ8_init 9 [(0, .ref a1)] [] (wset w a1 (.inl (nJ8, [.null, .null, .null, .null, .int 0, .int 0, .null, .null, .null]))) _
  refine r_aload_n 5 10 0 rfl rfl rfl ?_
  refine r_iconst 6 11 rfl rfl di_0 ?_
  refine r_put (i := 5) fl_J8_13_J8 in_J8 q176 (ty0 := tyJ8) tyJ8_ok nmJ8 7 14 rfl rfl wset_s rfl rfl rfl (Nat.le_of_ble_eq_true rfl) ?_
  rw [wset_wset]
  show Rn G mJ8_init 14 [(0, .ref a1)] [] (wset w a1 (.inl (nJ8, [.null, .null, .null, .null, .int 0, .int 0, .null, .null, .null]))) _
  refine r_aload_n 8 15 0 rfl rfl rfl ?_
  refine r_null 9 16 rfl rfl ?_
  refine r_putF (i := 2) fl_J8_16_J8 in_J8 q176 (ty0 := tyJ8) tyJ8_ok nmJ8 10 19 rfl rfl wset_s rfl rfl rfl rfl rfl (Nat.le_of_ble_eq_true rfl) ?_
  rw [wset_wset]
  show Rn G mJ8_init 19 [(0, .ref a1)] [] (wset w a1 (.inl (nJ8, [.null, .null, .null, .null, .int 0, .int 0, .null, .null, .null]))) _
  exact r_vret 11 rfl rfl k2
theorem e_J25_requireNonNull {G : Gm} {κ : Nat → Nat} {φ : Nat → Option Nat} (hS : GS G κ φ) {w : Wd} {Q : Rs → Wd → Prop} {a1 : Nat} (k1 : Q (.inl (some (.ref a1))) w) : Ev G mJ25_requireNonNull [.ref a1] w Q := by
  show Rn G mJ25_requireNonNull 0 [(0, .ref a1)] [] w Q
  refine r_aload_n 0 1 0 rfl rfl rfl ?_
  refine r_ifnonnull 1 12 rfl rfl ?_
  refine r_aload_n 6 13 0 rfl rfl rfl ?_
  exact r_aret 7 rfl rfl (Or.inl ⟨_, rfl⟩) (Or.inr ⟨_, rfl⟩) k1
theorem e_J20_compareTo_2 {G : Gm} {κ : Nat → Nat} {φ : Nat → Option Nat} (hS : GS G κ φ) {w : Wd} {Q : Rs → Wd → Prop} {a1 : Nat} {a2 : Nat} {x3 : Int32} {x4 : Int32} (o1 : Lk G w a1 (.inl (nJ20, [.int x3]))) (o2 : Lk G w a2 (.inl (nJ20, [.int x4]))) (k3 : x4 ≤ x3 → ¬ x3 = x4 → Q (.inl (some (.int 1))) w) (k4 : x4 ≤ x3 → x3 = x4 → Q (.inl (some (.int 0))) w) (k5 : ¬ x4 ≤ x3 → Q (.inl (some (.int (-1)))) w) : Ev G mJ20_compareTo_2 [.ref a1, .ref a2] w Q := by
  show Rn G mJ20_compareTo_2 0 [(0, .ref a1), (1, .ref a2)] [] w Q
  refine r_aload_n 0 1 0 rfl rfl rfl ?_
  refine r_get (v := .int x3) fl_J20_205_J20 1 4 rfl rfl o1 rfl ?_
  refine r_aload_n 2 5 1 rfl rfl rfl ?_
  refine r_get (v := .int x4) fl_J20_205_J20 3 8 rfl rfl o2 rfl ?_
  refine r_callS lkS_J20_259 4 11 rfl rfl (by decide) [.int x3, .int x4] rfl rfl (Nat.le_of_ble_eq_true rfl) (Nat.le_of_ble_eq_true rfl) (e_J20_compare hS (k1 := fun z0_0 => fun z0_1 => ?_) (k2 := fun z0_0 => fun z0_1 => ?_) (k3 := fun z0_0 => ?_)) (fun _ _ h => h)
  · show Rn G mJ20_compareTo_2 11 [(0, .ref a1), (1, .ref a2)] [.int 1] w _
    exact r_iret 5 rfl rfl rfl (k3 z0_0 z0_1)
  · show Rn G mJ20_compareTo_2 11 [(0, .ref a1), (1, .ref a2)] [.int 0] w _
    exact r_iret 5 rfl rfl rfl (k4 z0_0 z0_1)
  · show Rn G mJ20_compareTo_2 11 [(0, .ref a1), (1, .ref a2)] [.int (-1)] w _
    exact r_iret 5 rfl rfl rfl (k5 z0_0)
theorem e_J20_compareTo {G : Gm} {κ : Nat → Nat} {φ : Nat → Option Nat} (hS : GS G κ φ) {w : Wd} {Q : Rs → Wd → Prop} {a1 : Nat} {a2 : Nat} {x3 : Int32} {x4 : Int32} (o1 : Lk G w a2 (.inl (nJ20, [.int x3]))) (o2 : Lk G w a1 (.inl (nJ20, [.int x4]))) (k3 : x3 ≤ x4 → ¬ x4 = x3 → Q (.inl (some (.int 1))) w) (k4 : x3 ≤ x4 → x4 = x3 → Q (.inl (some (.int 0))) w) (k5 : ¬ x3 ≤ x4 → Q (.inl (some (.int (-1)))) w) : Ev G mJ20_compareTo [.ref a1, .ref a2] w Q := by
  show Rn G mJ20_compareTo 0 [(0, .ref a1), (1, .ref a2)] [] w Q
  refine r_aload_n 0 1 0 rfl rfl rfl ?_
  refine r_aload_n 1 2 1 rfl rfl rfl ?_
  refine r_castS (C := RJ20) (TT := TJ20) (NN := 1) rfl q942 2 5 rfl rfl o1 ?_
  refine r_callV lkV_J20_284_J20 (C := RJ20) (TT := TJ20) (NN := 1) rfl o2 3 8 rfl rfl (by decide) [.ref a2] rfl rfl (Nat.le_of_ble_eq_true rfl) (Nat.le_of_ble_eq_true rfl) (e_J20_compareTo_2 hS (o1 := o2) (o2 := o1) (k3 := fun z0_0 => fun z0_1 => ?_) (k4 := fun z0_0 => fun z0_1 => ?_) (k5 := fun z0_0 => ?_)) (fun _ _ h => h)
  · show Rn G mJ20_compareTo 8 [(0, .ref a1), (1, .ref a2)] [.int 1] w _
    exact r_iret 4 rfl rfl rfl (k3 z0_0 z0_1)
  · show Rn G mJ20_compareTo 8 [(0, .ref a1), (1, .ref a2)] [.int 0] w _
    exact r_iret 4 rfl rfl rfl (k4 z0_0 z0_1)
  · show Rn G mJ20_compareTo 8 [(0, .ref a1), (1, .ref a2)] [.int (-1)] w _
    exact r_iret 4 rfl rfl rfl (k5 z0_0)
theorem e_J8_getEntry {G : Gm} {κ : Nat → Nat} {φ : Nat → Option Nat} (hS : GS G κ φ) {w : Wd} {Q : Rs → Wd → Prop} {a1 : Nat} {a2 : Nat} {p3 : Option Nat} {p4 : Option Nat} {p5 : Option Nat} {m6 : Nat} {x7 : Int32} {p8 : Option Nat} {p9 : Option Nat} {p10 : Option Nat} {x11 : Int32} (o1 : Lk G w a1 (.inl (nJ8, [va_rf p3, va_rf p4, .null, va_rf p5, .int (nI m6), .int x7, va_rf p8, va_rf p9, va_rf p10]))) (o2 : Lk G w a2 (.inl (nJ20, [.int x11]))) (k3 : Rn G mJ8_getEntry 28 [(2, .ref a2), (3, va_rf p5)] [] w Q) : Ev G mJ8_getEntry [.ref a1, .ref a2] w Q := by
  show Rn G mJ8_getEntry 0 [(0, .ref a1), (1, .ref a2)] [] w Q
  refine r_aload_n 0 1 0 rfl rfl rfl ?_
  refine r_get (v := .null) fl_J8_16_J8 1 4 rfl rfl o1 rfl ?_
  refine r_ifnullN 2 13 rfl rfl ?_
  refine r_aload_n 7 14 1 rfl rfl rfl ?_
  refine r_callS lkS_J8_95 8 17 rfl rfl (by decide) [.ref a2] rfl rfl (Nat.le_of_ble_eq_true rfl) (Nat.le_of_ble_eq_true rfl) (e_J25_requireNonNull hS (k1 := ?_)) (fun _ _ h => h)
  show Rn G mJ8_getEntry 17 [(0, .ref a1), (1, .ref a2)] [.ref a2] w _
  refine r_pop 9 18 rfl rfl rfl ?_
  refine r_aload_n 10 19 1 rfl rfl rfl ?_
  refine r_castY (C := RJ20) (TT := TJ20) (NN := 1) rfl q974 q997 11 22 rfl rfl o2 ?_
  refine r_astore_n (lv' := [(2, .ref a2), (0, .ref a1), (1, .ref a2)]) 12 23 rfl rfl (Nat.le_of_ble_eq_true rfl) rfl ?_
  refine r_aload_n 13 24 1 rfl rfl rfl ?_
  refine r_get (v := va_rf p5) fl_J8_101_J8 14 27 rfl rfl o1 rfl ?_
  refine x_astoreP_n (p := p5) (lv' := [(3, va_rf p5), (2, .ref a2), (0, .ref a1), (1, .ref a2)]) 15 28 rfl rfl (Nat.le_of_ble_eq_true rfl) (by cases p5 <;> rfl) ?_
  exact r_sub [1, 0] rfl k3
theorem e_J8_getEntry_28 {G : Gm} {κ : Nat → Nat} {φ : Nat → Option Nat} (hS : GS G κ φ) {w : Wd} {Q : Rs → Wd → Prop} {a1 : Nat} {p2 : Option Nat} {a4 : Nat} {a5 : Nat} {p6 : Option Nat} {p7 : Option Nat} {p8 : Option Nat} {x9 : Int32} {x10 : Int32} {x11 : Int32} (k1 : p2 = none → Q (.inl (some (.null))) w) (o2 : ∀ pa3 : Nat, p2 = some pa3 → Lk G w pa3 (.inl (nJ29, [.ref a4, .ref a5, va_rf p6, va_rf p7, va_rf p8, .int x9]))) (o3 : Lk G w a1 (.inl (nJ20, [.int x10]))) (o4 : Lk G w a4 (.inl (nJ20, [.int x11]))) (k5 : ∀ pa3 : Nat, p2 = some pa3 → x11 ≤ x10 → ¬ x10 = x11 → Rn G mJ8_getEntry 28 [(2, .ref a1), (3, va_rf p7)] [] w Q) (k6 : ∀ pa3 : Nat, p2 = some pa3 → x11 ≤ x10 → x10 = x11 → Q (.inl (some (.ref pa3))) w) (k7 : ∀ pa3 : Nat, p2 = some pa3 → ¬ x11 ≤ x10 → Rn G mJ8_getEntry 28 [(2, .ref a1), (3, va_rf p6)] [] w Q) : Rn G mJ8_getEntry 28 [(2, .ref a1), (3, va_rf p2)] [] w Q := by
  refine x_aloadP_n (p := p2) 16 29 1 rfl rfl rfl ?_
  cases p2 with
  | none =>
    refine r_ifnullN 17 75 rfl rfl ?_
    refine r_null 38 76 rfl rfl ?_
    exact r_aret 39 rfl rfl (Or.inl ⟨_, rfl⟩) (Or.inl rfl) (k1 rfl)
  | some pa3 =>
    refine r_ifnull 17 32 rfl rfl ?_
    refine r_aload_n 18 33 0 rfl rfl rfl ?_
    refine r_aload_n 19 34 1 rfl rfl rfl ?_
    refine r_get (v := .ref a4) fl_J8_105_J29 20 37 rfl rfl (o2 pa3 rfl) rfl ?_
    refine r_callF lkF_J8_107_J20 (C := RJ20) (TT := TJ20) (NN := 1) rfl o3 21 42 rfl rfl (by decide) [.ref a4] rfl rfl (Nat.le_of_ble_eq_true rfl) (Nat.le_of_ble_eq_true rfl) (e_J20_compareTo hS (o1 := o4) (o2 := o3) (k3 := fun z1_0 => fun z1_1 => ?_) (k4 := fun z1_0 => fun z1_1 => ?_) (k5 := fun z1_0 => ?_)) (fun _ _ h => h)
    · show Rn G mJ8_getEntry 42 [(2, .ref a1), (3, .ref pa3)] [.int 1] w _
      refine r_istore (lv' := [(4, .int 1), (2, .ref a1), (3, .ref pa3)]) 22 44 rfl rfl (Nat.le_of_ble_eq_true rfl) rfl ?_
      refine r_iload 23 46 0 rfl rfl rfl ?_
      refine r_if_ge 24 49 57 rfl rfl rfl (fun _ => ?_) (fun c => absurd c (by decide))
      refine r_iload 29 59 0 rfl rfl rfl ?_
      refine r_if_le 30 62 70 rfl rfl rfl (fun c => absurd c (by decide)) (fun _ => ?_)
      refine r_aload_n 31 63 2 rfl rfl rfl ?_
      refine r_get (v := va_rf p7) fl_J8_114_J29 32 66 rfl rfl (o2 pa3 rfl) rfl ?_
      refine x_astoreP_n (p := p7) (lv' := [(3, va_rf p7), (4, .int 1), (2, .ref a1)]) 33 67 rfl rfl (Nat.le_of_ble_eq_true rfl) (by cases p7 <;> rfl) ?_
      refine r_goto 34 72 rfl rfl ?_
      refine r_goto 37 28 rfl rfl ?_
      exact r_sub [2, 0] rfl (k5 pa3 rfl z1_0 z1_1)
    · show Rn G mJ8_getEntry 42 [(2, .ref a1), (3, .ref pa3)] [.int 0] w _
      refine r_istore (lv' := [(4, .int 0), (2, .ref a1), (3, .ref pa3)]) 22 44 rfl rfl (Nat.le_of_ble_eq_true rfl) rfl ?_
      refine r_iload 23 46 0 rfl rfl rfl ?_
      refine r_if_ge 24 49 57 rfl rfl rfl (fun _ => ?_) (fun c => absurd c (by decide))
      refine r_iload 29 59 0 rfl rfl rfl ?_
      refine r_if_le 30 62 70 rfl rfl rfl (fun _ => ?_) (fun c => absurd c (by decide))
      refine r_aload_n 35 71 2 rfl rfl rfl ?_
      exact r_aret 36 rfl rfl (Or.inl ⟨_, rfl⟩) (Or.inr ⟨_, rfl⟩) (k6 pa3 rfl z1_0 z1_1)
    · show Rn G mJ8_getEntry 42 [(2, .ref a1), (3, .ref pa3)] [.int (-1)] w _
      refine r_istore (lv' := [(4, .int (-1)), (2, .ref a1), (3, .ref pa3)]) 22 44 rfl rfl (Nat.le_of_ble_eq_true rfl) rfl ?_
      refine r_iload 23 46 0 rfl rfl rfl ?_
      refine r_if_ge 24 49 57 rfl rfl rfl (fun c => absurd c (by decide)) (fun _ => ?_)
      refine r_aload_n 25 50 2 rfl rfl rfl ?_
      refine r_get (v := va_rf p6) fl_J8_111_J29 26 53 rfl rfl (o2 pa3 rfl) rfl ?_
      refine x_astoreP_n (p := p6) (lv' := [(3, va_rf p6), (4, .int (-1)), (2, .ref a1)]) 27 54 rfl rfl (Nat.le_of_ble_eq_true rfl) (by cases p6 <;> rfl) ?_
      refine r_goto 28 72 rfl rfl ?_
      refine r_goto 37 28 rfl rfl ?_
      exact r_sub [2, 0] rfl (k7 pa3 rfl z1_0)
theorem e_J8_get {G : Gm} {κ : Nat → Nat} {φ : Nat → Option Nat} (hS : GS G κ φ) {w : Wd} {Q : Rs → Wd → Prop} {a1 : Nat} {a2 : Nat} {p3 : Option Nat} {p4 : Option Nat} {p5 : Option Nat} {m6 : Nat} {x7 : Int32} {p8 : Option Nat} {p9 : Option Nat} {p10 : Option Nat} (o1 : Lk G w a1 (.inl (nJ8, [va_rf p3, va_rf p4, .null, va_rf p5, .int (nI m6), .int x7, va_rf p8, va_rf p9, va_rf p10]))) {Q2 : Rs → Wd → Prop} (e2 : Ev G mJ8_getEntry [.ref a1, .ref a2] w Q2) (k2 : ∀ r w', Q2 r w' → Af G mJ8_get 2 5 [] [] r w' Q) : Ev G mJ8_get [.ref a1, .ref a2] w Q := by
  show Rn G mJ8_get 0 [(0, .ref a1), (1, .ref a2)] [] w Q
  refine r_aload_n 0 1 0 rfl rfl rfl ?_
  refine r_aload_n 1 2 1 rfl rfl rfl ?_
  exact r_callV lkV_J8_50_J8 (C := RJ8) (TT := TJ8) (NN := 9) rfl o1 2 5 rfl rfl (by decide) [.ref a2] rfl rfl (Nat.le_of_ble_eq_true rfl) (Nat.le_of_ble_eq_true rfl) e2 (fun r w' h => Af.sub [] rfl (k2 r w' h))
theorem e_J8_get_5 {G : Gm} {κ : Nat → Nat} {φ : Nat → Option Nat} (hS : GS G κ φ) {w : Wd} {Q : Rs → Wd → Prop} {p1 : Option Nat} {a3 : Nat} {a4 : Nat} {p5 : Option Nat} {p6 : Option Nat} {p7 : Option Nat} {x8 : Int32} (k1 : p1 = none → Q (.inl (some (.null))) w) (o2 : ∀ pa2 : Nat, p1 = some pa2 → Lk G w pa2 (.inl (nJ29, [.ref a3, .ref a4, va_rf p5, va_rf p6, va_rf p7, .int x8]))) (k3 : ∀ pa2 : Nat, p1 = some pa2 → Q (.inl (some (.ref a4))) w) : Rn G mJ8_get 5 [] [va_rf p1] w Q := by
  refine x_astoreP_n (p := p1) (lv' := [(2, va_rf p1)]) 3 6 rfl rfl (Nat.le_of_ble_eq_true rfl) (by cases p1 <;> rfl) ?_
  refine x_aloadP_n (p := p1) 4 7 0 rfl rfl rfl ?_
  cases p1 with
  | none =>
    refine r_ifnonnullN 5 10 rfl rfl ?_
    refine r_null 6 11 rfl rfl ?_
    refine r_goto 7 18 rfl rfl ?_
    exact r_aret 10 rfl rfl (Or.inl ⟨_, rfl⟩) (Or.inl rfl) (k1 rfl)
  | some pa2 =>
    refine r_ifnonnull 5 14 rfl rfl ?_
    refine r_aload_n 8 15 0 rfl rfl rfl ?_
    refine r_get (v := .ref a4) fl_J8_58_J29 9 18 rfl rfl (o2 pa2 rfl) rfl ?_
    exact r_aret 10 rfl rfl (Or.inl ⟨_, rfl⟩) (Or.inr ⟨_, rfl⟩) (k3 pa2 rfl)
theorem e_J8_containsKey {G : Gm} {κ : Nat → Nat} {φ : Nat → Option Nat} (hS : GS G κ φ) {w : Wd} {Q : Rs → Wd → Prop} {a1 : Nat} {a2 : Nat} {p3 : Option Nat} {p4 : Option Nat} {p5 : Option Nat} {m6 : Nat} {x7 : Int32} {p8 : Option Nat} {p9 : Option Nat} {p10 : Option Nat} (o1 : Lk G w a1 (.inl (nJ8, [va_rf p3, va_rf p4, .null, va_rf p5, .int (nI m6), .int x7, va_rf p8, va_rf p9, va_rf p10]))) {Q2 : Rs → Wd → Prop} (e2 : Ev G mJ8_getEntry [.ref a1, .ref a2] w Q2) (k2 : ∀ r w', Q2 r w' → Af G mJ8_containsKey 2 5 [] [] r w' Q) : Ev G mJ8_containsKey [.ref a1, .ref a2] w Q := by
  show Rn G mJ8_containsKey 0 [(0, .ref a1), (1, .ref a2)] [] w Q
  refine r_aload_n 0 1 0 rfl rfl rfl ?_
  refine r_aload_n 1 2 1 rfl rfl rfl ?_
  exact r_callV lkV_J8_50_J8 (C := RJ8) (TT := TJ8) (NN := 9) rfl o1 2 5 rfl rfl (by decide) [.ref a2] rfl rfl (Nat.le_of_ble_eq_true rfl) (Nat.le_of_ble_eq_true rfl) e2 (fun r w' h => Af.sub [] rfl (k2 r w' h))
theorem e_J8_containsKey_5 {G : Gm} {κ : Nat → Nat} {φ : Nat → Option Nat} (hS : GS G κ φ) {w : Wd} {Q : Rs → Wd → Prop} {p1 : Option Nat} (k1 : p1 = none → Q (.inl (some (.int 0))) w) (k2 : ∀ pa2 : Nat, p1 = some pa2 → Q (.inl (some (.int 1))) w) : Rn G mJ8_containsKey 5 [] [va_rf p1] w Q := by
  cases p1 with
  | none =>
    refine r_ifnullN 3 12 rfl rfl ?_
    refine r_iconst 6 13 rfl rfl di_0 ?_
    exact r_iret 7 rfl rfl (by decide) (k1 rfl)
  | some pa2 =>
    refine r_ifnull 3 8 rfl rfl ?_
    refine r_iconst 4 9 rfl rfl di_1 ?_
    refine r_goto 5 13 rfl rfl ?_
    exact r_iret 7 rfl rfl (by decide) (k2 pa2 rfl)
theorem e_J29_init {G : Gm} {κ : Nat → Nat} {φ : Nat → Option Nat} (hS : GS G κ φ) {w : Wd} {Q : Rs → Wd → Prop} {a1 : Nat} {a2 : Nat} {a3 : Nat} {p4 : Option Nat} (o1 : w.1 a1 = some (.inl (nJ29, [.null, .null, .null, .null, .null, .int 0]))) (k2 : Q (.inl none) (wset w a1 (.inl (nJ29, [.ref a2, .ref a3, .null, .null, va_rf p4, .int 1])))) : Ev G mJ29_init [.ref a1, .ref a2, .ref a3, va_rf p4] w Q := by
  show Rn G mJ29_init 0 [(0, .ref a1), (1, .ref a2), (2, .ref a3), (3, va_rf p4)] [] w Q
  refine r_aload_n 0 1 0 rfl rfl rfl ?_
  refine r_objInit q1332 q111 q112 1 4 rfl rfl (by decide) (Nat.le_of_ble_eq_true rfl) ?_
  refine r_aload_n 2 5 0 rfl rfl rfl ?_
  refine r_iconst 3 6 rfl rfl di_1 ?_
  refine r_put (i := 5) fl_J29_9_J29 in_J29 q1328 (ty0 := tyJ29) tyJ29_ok nmJ29 4 9 rfl rfl o1 rfl rfl rfl (Nat.le_of_ble_eq_true rfl) ?_
  show Rn G mJ29_init 9 [(0, .ref a1), (1, .ref a2), (2, .ref a3), (3, va_rf p4)] [] (wset w a1 (.inl (nJ29, [.null, .null, .null, .null, .null, .int 1]))) _
  refine r_aload_n 5 10 0 rfl rfl rfl ?_
  refine r_aload_n 6 11 1 rfl rfl rfl ?_
  refine r_put (i := 0) fl_J29_15_J29 in_J29 q1328 (ty0 := tyJ29) tyJ29_ok nmJ29 7 14 rfl rfl wset_s rfl rfl rfl (Nat.le_of_ble_eq_true rfl) ?_
  rw [wset_wset]
  show Rn G mJ29_init 14 [(0, .ref a1), (1, .ref a2), (2, .ref a3), (3, va_rf p4)] [] (wset w a1 (.inl (nJ29, [.ref a2, .null, .null, .null, .null, .int 1]))) _
  refine r_aload_n 8 15 0 rfl rfl rfl ?_
  refine r_aload_n 9 16 2 rfl rfl rfl ?_
  refine r_put (i := 1) fl_J29_19_J29 in_J29 q1328 (ty0 := tyJ29) tyJ29_ok nmJ29 10 19 rfl rfl wset_s rfl rfl rfl (Nat.le_of_ble_eq_true rfl) ?_
  rw [wset_wset]
  show Rn G mJ29_init 19 [(0, .ref a1), (1, .ref a2), (2, .ref a3), (3, va_rf p4)] [] (wset w a1 (.inl (nJ29, [.ref a2, .ref a3, .null, .null, .null, .int 1]))) _
  refine r_aload_n 11 20 0 rfl rfl rfl ?_
  refine x_aloadP_n (p := p4) 12 21 3 rfl rfl rfl ?_
  refine r_put (i := 4) fl_J29_22_J29 in_J29 q1328 (ty0 := tyJ29) tyJ29_ok nmJ29 13 24 rfl rfl wset_s rfl (by cases p4 <;> rfl) (by cases p4 <;> rfl) (Nat.le_of_ble_eq_true rfl) ?_
  rw [wset_wset]
  show Rn G mJ29_init 24 [(0, .ref a1), (1, .ref a2), (2, .ref a3), (3, va_rf p4)] [] (wset w a1 (.inl (nJ29, [.ref a2, .ref a3, .null, .null, va_rf p4, .int 1]))) _
  exact r_vret 14 rfl rfl k2
theorem e_J8_compare {G : Gm} {κ : Nat → Nat} {φ : Nat → Option Nat} (hS : GS G κ φ) {w : Wd} {Q : Rs → Wd → Prop} {a1 : Nat} {a2 : Nat} {a3 : Nat} {p4 : Option Nat} {p5 : Option Nat} {p6 : Option Nat} {m7 : Nat} {x8 : Int32} {p9 : Option Nat} {p10 : Option Nat} {p11 : Option Nat} {x12 : Int32} {x13 : Int32} (o1 : Lk G w a1 (.inl (nJ8, [va_rf p4, va_rf p5, .null, va_rf p6, .int (nI m7), .int x8, va_rf p9, va_rf p10, va_rf p11]))) (o2 : Lk G w a2 (.inl (nJ20, [.int x12]))) (o3 : Lk G w a3 (.inl (nJ20, [.int x13]))) (k4 : x13 ≤ x12 → ¬ x12 = x13 → Q (.inl (some (.int 1))) w) (k5 : x13 ≤ x12 → x12 = x13 → Q (.inl (some (.int 0))) w) (k6 : ¬ x13 ≤ x12 → Q (.inl (some (.int (-1)))) w) : Ev G mJ8_compare [.ref a1, .ref a2, .ref a3] w Q := by
  show Rn G mJ8_compare 0 [(0, .ref a1), (1, .ref a2), (2, .ref a3)] [] w Q
  refine r_aload_n 0 1 0 rfl rfl rfl ?_
  refine r_get (v := .null) fl_J8_16_J8 1 4 rfl rfl o1 rfl ?_
  refine r_ifnonnullN 2 7 rfl rfl ?_
  refine r_aload_n 3 8 1 rfl rfl rfl ?_
  refine r_castY (C := RJ20) (TT := TJ20) (NN := 1) rfl q974 q997 4 11 rfl rfl o2 ?_
  refine r_aload_n 5 12 2 rfl rfl rfl ?_
  refine r_callF lkF_J8_107_J20 (C := RJ20) (TT := TJ20) (NN := 1) rfl o2 6 17 rfl rfl (by decide) [.ref a3] rfl rfl (Nat.le_of_ble_eq_true rfl) (Nat.le_of_ble_eq_true rfl) (e_J20_compareTo hS (o1 := o3) (o2 := o2) (k3 := fun z0_0 => fun z0_1 => ?_) (k4 := fun z0_0 => fun z0_1 => ?_) (k5 := fun z0_0 => ?_)) (fun _ _ h => h)
  · show Rn G mJ8_compare 17 [(0, .ref a1), (1, .ref a2), (2, .ref a3)] [.int 1] w _
    refine r_goto 7 31 rfl rfl ?_
    exact r_iret 13 rfl rfl rfl (k4 z0_0 z0_1)
  · show Rn G mJ8_compare 17 [(0, .ref a1), (1, .ref a2), (2, .ref a3)] [.int 0] w _
    refine r_goto 7 31 rfl rfl ?_
    exact r_iret 13 rfl rfl rfl (k5 z0_0 z0_1)
  · show Rn G mJ8_compare 17 [(0, .ref a1), (1, .ref a2), (2, .ref a3)] [.int (-1)] w _
    refine r_goto 7 31 rfl rfl ?_
    exact r_iret 13 rfl rfl rfl (k6 z0_0)
theorem e_J8_addEntryToEmptyMap {G : Gm} {κ : Nat → Nat} {φ : Nat → Option Nat} (hS : GS G κ φ) {w : Wd} {Q : Rs → Wd → Prop} {a1 : Nat} {a2 : Nat} {a3 : Nat} {p4 : Option Nat} {p5 : Option Nat} {p6 : Option Nat} {m7 : Nat} {x8 : Int32} {p9 : Option Nat} {p10 : Option Nat} {p11 : Option Nat} {x12 : Int32} (o1 : w.1 a1 = some (.inl (nJ8, [va_rf p4, va_rf p5, .null, va_rf p6, .int (nI m7), .int x8, va_rf p9, va_rf p10, va_rf p11]))) (o2 : Lk G w a2 (.inl (nJ20, [.int x12]))) (hg : 18 ≤ w.2.2) (k3 : x12 ≤ x12 → ¬ x12 = x12 → Q (.inl none) (wset (wset (wnew w (.inl (nJ29, [.null, .null, .null, .null, .null, .int 0])) 6) w.2.1 (.inl (nJ29, [.ref a2, .ref a3, .null, .null, .null, .int 1]))) a1 (.inl (nJ8, [va_rf p4, va_rf p5, .null, .ref w.2.1, .int 1, .int (x8 + (1 : Int32)), va_rf p9, va_rf p10, va_rf p11])))) (k4 : x12 ≤ x12 → x12 = x12 → Q (.inl none) (wset (wset (wnew w (.inl (nJ29, [.null, .null, .null, .null, .null, .int 0])) 6) w.2.1 (.inl (nJ29, [.ref a2, .ref a3, .null, .null, .null, .int 1]))) a1 (.inl (nJ8, [va_rf p4, va_rf p5, .null, .ref w.2.1, .int 1, .int (x8 + (1 : Int32)), va_rf p9, va_rf p10, va_rf p11])))) (k5 : ¬ x12 ≤ x12 → Q (.inl none) (wset (wset (wnew w (.inl (nJ29, [.null, .null, .null, .null, .null, .int 0])) 6) w.2.1 (.inl (nJ29, [.ref a2, .ref a3, .null, .null, .null, .int 1]))) a1 (.inl (nJ8, [va_rf p4, va_rf p5, .null, .ref w.2.1, .int 1, .int (x8 + (1 : Int32)), va_rf p9, va_rf p10, va_rf p11])))) : Ev G mJ8_addEntryToEmptyMap [.ref a1, .ref a2, .ref a3] w Q := by
  show Rn G mJ8_addEntryToEmptyMap 0 [(0, .ref a1), (1, .ref a2), (2, .ref a3)] [] w Q
  refine Rn.wok fun hwk => ?_
  refine r_aload_n 0 1 0 rfl rfl rfl ?_
  refine r_aload_n 1 2 1 rfl rfl rfl ?_
  refine r_aload_n 2 3 1 rfl rfl rfl ?_
  refine r_callV lkV_J8_123_J8 (C := RJ8) (TT := TJ8) (NN := 9) rfl (Or.inl o1) 3 6 rfl rfl (by decide) [.ref a2, .ref a2] rfl rfl (Nat.le_of_ble_eq_true rfl) (Nat.le_of_ble_eq_true rfl) (e_J8_compare hS (p11 := p11) (p10 := p10) (p9 := p9) (m7 := m7) (p6 := p6) (p5 := p5) (p4 := p4) (o1 := (Or.inl o1)) (o2 := o2) (o3 := o2) (k4 := fun z0_0 => fun z0_1 => ?_) (k5 := fun z0_0 => fun z0_1 => ?_) (k6 := fun z0_0 => ?_)) (fun _ _ h => h)
  · show Rn G mJ8_addEntryToEmptyMap 6 [(0, .ref a1), (1, .ref a2), (2, .ref a3)] [.int 1] w _
    refine r_pop 4 7 rfl rfl rfl ?_
    refine r_aload_n 5 8 0 rfl rfl rfl ?_
    refine r_new (fs := [.null, .null, .null, .null, .null, .int 0]) (ty := tyJ29) (T := TJ29) (C := RJ29) (N := 6) (ci := nJ29) (n := 6) 6 11 rfl rfl rfl in_J29 tyJ29_ok q1327 q1328 q100 rfl (by decide) (by show 12 + 6 ≤ w.2.2; omega) ?_
    show Rn G mJ8_addEntryToEmptyMap 11 [(0, .ref a1), (1, .ref a2), (2, .ref a3)] [.ref w.2.1, .ref a1] (wnew w (.inl (nJ29, [.null, .null, .null, .null, .null, .int 0])) 6) _
    refine r_dup 7 12 rfl rfl rfl ?_
    refine r_aload_n 8 13 1 rfl rfl rfl ?_
    refine r_aload_n 9 14 2 rfl rfl rfl ?_
    refine r_null 10 15 rfl rfl ?_
    refine r_callI lkI_J8_167 11 18 rfl rfl (by decide) [.ref a2, .ref a3, .null] rfl rfl (Nat.le_of_ble_eq_true rfl) (Nat.le_of_ble_eq_true rfl) (e_J29_init hS (p4 := none) (o1 := wnew_s) (k2 := ?_)) (fun _ _ h => h)
    show Rn G mJ8_addEntryToEmptyMap 18 [(0, .ref a1), (1, .ref a2), (2, .ref a3)] [.ref w.2.1, .ref a1] (wset (wnew w (.inl (nJ29, [.null, .null, .null, .null, .null, .int 0])) 6) w.2.1 (.inl (nJ29, [.ref a2, .ref a3, .null, .null, .null, .int 1]))) _
    refine r_put (i := 3) fl_J8_101_J8 in_J8 q176 (ty0 := tyJ8) tyJ8_ok nmJ8 12 21 rfl rfl (wset_n (wnew_n o1 (by have := (hwk.1 _ _ o1).2; show a1 < w.2.1; omega)) (Nat.ne_of_lt (show a1 < w.2.1 from (by have := (hwk.1 _ _ o1).2; omega)))) rfl rfl rfl (Nat.le_of_ble_eq_true rfl) ?_
    show Rn G mJ8_addEntryToEmptyMap 21 [(0, .ref a1), (1, .ref a2), (2, .ref a3)] [] (wset (wset (wnew w (.inl (nJ29, [.null, .null, .null, .null, .null, .int 0])) 6) w.2.1 (.inl (nJ29, [.ref a2, .ref a3, .null, .null, .null, .int 1]))) a1 (.inl (nJ8, [va_rf p4, va_rf p5, .null, .ref w.2.1, .int (nI m7), .int x8, va_rf p9, va_rf p10, va_rf p11]))) _
    refine r_aload_n 13 22 0 rfl rfl rfl ?_
    refine r_iconst 14 23 rfl rfl di_1 ?_
    refine r_put (i := 4) fl_J8_7_J8 in_J8 q176 (ty0 := tyJ8) tyJ8_ok nmJ8 15 26 rfl rfl wset_s rfl rfl rfl (Nat.le_of_ble_eq_true rfl) ?_
    rw [wset_wset]
    show Rn G mJ8_addEntryToEmptyMap 26 [(0, .ref a1), (1, .ref a2), (2, .ref a3)] [] (wset (wset (wnew w (.inl (nJ29, [.null, .null, .null, .null, .null, .int 0])) 6) w.2.1 (.inl (nJ29, [.ref a2, .ref a3, .null, .null, .null, .int 1]))) a1 (.inl (nJ8, [va_rf p4, va_rf p5, .null, .ref w.2.1, .int 1, .int x8, va_rf p9, va_rf p10, va_rf p11]))) _
    refine r_aload_n 16 27 0 rfl rfl rfl ?_
    refine r_dup 17 28 rfl rfl rfl ?_
    refine r_get (v := .int x8) fl_J8_13_J8 18 31 rfl rfl (Or.inl wset_s) rfl ?_
    refine r_iconst 19 32 rfl rfl di_1 ?_
    refine r_iadd 20 33 rfl rfl ?_
    refine r_put (i := 5) fl_J8_13_J8 in_J8 q176 (ty0 := tyJ8) tyJ8_ok nmJ8 21 36 rfl rfl wset_s rfl rfl rfl (Nat.le_of_ble_eq_true rfl) ?_
    rw [wset_wset]
    show Rn G mJ8_addEntryToEmptyMap 36 [(0, .ref a1), (1, .ref a2), (2, .ref a3)] [] (wset (wset (wnew w (.inl (nJ29, [.null, .null, .null, .null, .null, .int 0])) 6) w.2.1 (.inl (nJ29, [.ref a2, .ref a3, .null, .null, .null, .int 1]))) a1 (.inl (nJ8, [va_rf p4, va_rf p5, .null, .ref w.2.1, .int 1, .int (x8 + (1 : Int32)), va_rf p9, va_rf p10, va_rf p11]))) _
    exact r_vret 22 rfl rfl (k3 z0_0 z0_1)
  · show Rn G mJ8_addEntryToEmptyMap 6 [(0, .ref a1), (1, .ref a2), (2, .ref a3)] [.int 0] w _
    refine r_pop 4 7 rfl rfl rfl ?_
    refine r_aload_n 5 8 0 rfl rfl rfl ?_
    refine r_new (fs := [.null, .null, .null, .null, .null, .int 0]) (ty := tyJ29) (T := TJ29) (C := RJ29) (N := 6) (ci := nJ29) (n := 6) 6 11 rfl rfl rfl in_J29 tyJ29_ok q1327 q1328 q100 rfl (by decide) (by show 12 + 6 ≤ w.2.2; omega) ?_
    show Rn G mJ8_addEntryToEmptyMap 11 [(0, .ref a1), (1, .ref a2), (2, .ref a3)] [.ref w.2.1, .ref a1] (wnew w (.inl (nJ29, [.null, .null, .null, .null, .null, .int 0])) 6) _
    refine r_dup 7 12 rfl rfl rfl ?_
    refine r_aload_n 8 13 1 rfl rfl rfl ?_
    refine r_aload_n 9 14 2 rfl rfl rfl ?_
    refine r_null 10 15 rfl rfl ?_
    refine r_callI lkI_J8_167 11 18 rfl rfl (by decide) [.ref a2, .ref a3, .null] rfl rfl (Nat.le_of_ble_eq_true rfl) (Nat.le_of_ble_eq_true rfl) (e_J29_init hS (p4 := none) (o1 := wnew_s) (k2 := ?_)) (fun _ _ h => h)
    show Rn G mJ8_addEntryToEmptyMap 18 [(0, .ref a1), (1, .ref a2), (2, .ref a3)] [.ref w.2.1, .ref a1] (wset (wnew w (.inl (nJ29, [.null, .null, .null, .null, .null, .int 0])) 6) w.2.1 (.inl (nJ29, [.ref a2, .ref a3, .null, .null, .null, .int 1]))) _
    refine r_put (i := 3) fl_J8_101_J8 in_J8 q176 (ty0 := tyJ8) tyJ8_ok nmJ8 12 21 rfl rfl (wset_n (wnew_n o1 (by have := (hwk.1 _ _ o1).2; show a1 < w.2.1; omega)) (Nat.ne_of_lt (show a1 < w.2.1 from (by have := (hwk.1 _ _ o1).2; omega)))) rfl rfl rfl (Nat.le_of_ble_eq_true rfl) ?_
    show Rn G mJ8_addEntryToEmptyMap 21 [(0, .ref a1), (1, .ref a2), (2, .ref a3)] [] (wset (wset (wnew w (.inl (nJ29, [.null, .null, .null, .null, .null, .int 0])) 6) w.2.1 (.inl (nJ29, [.ref a2, .ref a3, .null, .null, .null, .int 1]))) a1 (.inl (nJ8, [va_rf p4, va_rf p5, .null, .ref w.2.1, .int (nI m7), .int x8, va_rf p9, va_rf p10, va_rf p11]))) _
    refine r_aload_n 13 22 0 rfl rfl rfl ?_
    refine r_iconst 14 23 rfl rfl di_1 ?_
    refine r_put (i := 4) fl_J8_7_J8 in_J8 q176 (ty0 := tyJ8) tyJ8_ok nmJ8 15 26 rfl rfl wset_s rfl rfl rfl (Nat.le_of_ble_eq_true rfl) ?_
    rw [wset_wset]
    show Rn G mJ8_addEntryToEmptyMap 26 [(0, .ref a1), (1, .ref a2), (2, .ref a3)] [] (wset (wset (wnew w (.inl (nJ29, [.null, .null, .null, .null, .null, .int 0])) 6) w.2.1 (.inl (nJ29, [.ref a2, .ref a3, .null, .null, .null, .int 1]))) a1 (.inl (nJ8, [va_rf p4, va_rf p5, .null, .ref w.2.1, .int 1, .int x8, va_rf p9, va_rf p10, va_rf p11]))) _
    refine r_aload_n 16 27 0 rfl rfl rfl ?_
    refine r_dup 17 28 rfl rfl rfl ?_
    refine r_get (v := .int x8) fl_J8_13_J8 18 31 rfl rfl (Or.inl wset_s) rfl ?_
    refine r_iconst 19 32 rfl rfl di_1 ?_
    refine r_iadd 20 33 rfl rfl ?_
    refine r_put (i := 5) fl_J8_13_J8 in_J8 q176 (ty0 := tyJ8) tyJ8_ok nmJ8 21 36 rfl rfl wset_s rfl rfl rfl (Nat.le_of_ble_eq_true rfl) ?_
    rw [wset_wset]
    show Rn G mJ8_addEntryToEmptyMap 36 [(0, .ref a1), (1, .ref a2), (2, .ref a3)] [] (wset (wset (wnew w (.inl (nJ29, [.null, .null, .null, .null, .null, .int 0])) 6) w.2.1 (.inl (nJ29, [.ref a2, .ref a3, .null, .null, .null, .int 1]))) a1 (.inl (nJ8, [va_rf p4, va_rf p5, .null, .ref w.2.1, .int 1, .int (x8 + (1 : Int32)), va_rf p9, va_rf p10, va_rf p11]))) _
    exact r_vret 22 rfl rfl (k4 z0_0 z0_1)
  · show Rn G mJ8_addEntryToEmptyMap 6 [(0, .ref a1), (1, .ref a2), (2, .ref a3)] [.int (-1)] w _
    refine r_pop 4 7 rfl rfl rfl ?_
    refine r_aload_n 5 8 0 rfl rfl rfl ?_
    refine r_new (fs := [.null, .null, .null, .null, .null, .int 0]) (ty := tyJ29) (T := TJ29) (C := RJ29) (N := 6) (ci := nJ29) (n := 6) 6 11 rfl rfl rfl in_J29 tyJ29_ok q1327 q1328 q100 rfl (by decide) (by show 12 + 6 ≤ w.2.2; omega) ?_
    show Rn G mJ8_addEntryToEmptyMap 11 [(0, .ref a1), (1, .ref a2), (2, .ref a3)] [.ref w.2.1, .ref a1] (wnew w (.inl (nJ29, [.null, .null, .null, .null, .null, .int 0])) 6) _
    refine r_dup 7 12 rfl rfl rfl ?_
    refine r_aload_n 8 13 1 rfl rfl rfl ?_
    refine r_aload_n 9 14 2 rfl rfl rfl ?_
    refine r_null 10 15 rfl rfl ?_
    refine r_callI lkI_J8_167 11 18 rfl rfl (by decide) [.ref a2, .ref a3, .null] rfl rfl (Nat.le_of_ble_eq_true rfl) (Nat.le_of_ble_eq_true rfl) (e_J29_init hS (p4 := none) (o1 := wnew_s) (k2 := ?_)) (fun _ _ h => h)
    show Rn G mJ8_addEntryToEmptyMap 18 [(0, .ref a1), (1, .ref a2), (2, .ref a3)] [.ref w.2.1, .ref a1] (wset (wnew w (.inl (nJ29, [.null, .null, .null, .null, .null, .int 0])) 6) w.2.1 (.inl (nJ29, [.ref a2, .ref a3, .null, .null, .null, .int 1]))) _
    refine r_put (i := 3) fl_J8_101_J8 in_J8 q176 (ty0 := tyJ8) tyJ8_ok nmJ8 12 21 rfl rfl (wset_n (wnew_n o1 (by have := (hwk.1 _ _ o1).2; show a1 < w.2.1; omega)) (Nat.ne_of_lt (show a1 < w.2.1 from (by have := (hwk.1 _ _ o1).2; omega)))) rfl rfl rfl (Nat.le_of_ble_eq_true rfl) ?_
    show Rn G mJ8_addEntryToEmptyMap 21 [(0, .ref a1), (1, .ref a2), (2, .ref a3)] [] (wset (wset (wnew w (.inl (nJ29, [.null, .null, .null, .null, .null, .int 0])) 6) w.2.1 (.inl (nJ29, [.ref a2, .ref a3, .null, .null, .null, .int 1]))) a1 (.inl (nJ8, [va_rf p4, va_rf p5, .null, .ref w.2.1, .int (nI m7), .int x8, va_rf p9, va_rf p10, va_rf p11]))) _
    refine r_aload_n 13 22 0 rfl rfl rfl ?_
    refine r_iconst 14 23 rfl rfl di_1 ?_
    refine r_put (i := 4) fl_J8_7_J8 in_J8 q176 (ty0 := tyJ8) tyJ8_ok nmJ8 15 26 rfl rfl wset_s rfl rfl rfl (Nat.le_of_ble_eq_true rfl) ?_
    rw [wset_wset]
    show Rn G mJ8_addEntryToEmptyMap 26 [(0, .ref a1), (1, .ref a2), (2, .ref a3)] [] (wset (wset (wnew w (.inl (nJ29, [.null, .null, .null, .null, .null, .int 0])) 6) w.2.1 (.inl (nJ29, [.ref a2, .ref a3, .null, .null, .null, .int 1]))) a1 (.inl (nJ8, [va_rf p4, va_rf p5, .null, .ref w.2.1, .int 1, .int x8, va_rf p9, va_rf p10, va_rf p11]))) _
    refine r_aload_n 16 27 0 rfl rfl rfl ?_
    refine r_dup 17 28 rfl rfl rfl ?_
    refine r_get (v := .int x8) fl_J8_13_J8 18 31 rfl rfl (Or.inl wset_s) rfl ?_
    refine r_iconst 19 32 rfl rfl di_1 ?_
    refine r_iadd 20 33 rfl rfl ?_
    refine r_put (i := 5) fl_J8_13_J8 in_J8 q176 (ty0 := tyJ8) tyJ8_ok nmJ8 21 36 rfl rfl wset_s rfl rfl rfl (Nat.le_of_ble_eq_true rfl) ?_
    rw [wset_wset]
    show Rn G mJ8_addEntryToEmptyMap 36 [(0, .ref a1), (1, .ref a2), (2, .ref a3)] [] (wset (wset (wnew w (.inl (nJ29, [.null, .null, .null, .null, .null, .int 0])) 6) w.2.1 (.inl (nJ29, [.ref a2, .ref a3, .null, .null, .null, .int 1]))) a1 (.inl (nJ8, [va_rf p4, va_rf p5, .null, .ref w.2.1, .int 1, .int (x8 + (1 : Int32)), va_rf p9, va_rf p10, va_rf p11]))) _
    exact r_vret 22 rfl rfl (k5 z0_0)
theorem e_J8_put_2 {G : Gm} {κ : Nat → Nat} {φ : Nat → Option Nat} (hS : GS G κ φ) {w : Wd} {Q : Rs → Wd → Prop} {a1 : Nat} {a2 : Nat} {a3 : Nat} {p4 : Option Nat} {p5 : Option Nat} {p6 : Option Nat} {m7 : Nat} {x8 : Int32} {p9 : Option Nat} {p10 : Option Nat} {p11 : Option Nat} {x13 : Int32} (o1 : Lk G w a1 (.inl (nJ8, [va_rf p4, va_rf p5, .null, va_rf p6, .int (nI m7), .int x8, va_rf p9, va_rf p10, va_rf p11]))) {Q2 : Rs → Wd → Prop} (e2 : p6 = none → Ev G mJ8_addEntryToEmptyMap [.ref a1, .ref a2, .ref a3] w Q2) (k2 : p6 = none → ∀ r w', Q2 r w' → Af G mJ8_put_2 14 17 [] [] r w' Q) (o3 : Lk G w a2 (.inl (nJ20, [.int x13]))) (k4 : ∀ pa12 : Nat, p6 = some pa12 → Rn G mJ8_put_2 123 [(0, .ref a1), (1, .ref a2), (2, .ref a3), (3, .int 1), (4, .ref pa12), (8, .ref a2)] [] w Q) : Ev G mJ8_put_2 [.ref a1, .ref a2, .ref a3, .int 1] w Q := by
  show Rn G mJ8_put_2 0 [(0, .ref a1), (1, .ref a2), (2, .ref a3), (3, .int 1)] [] w Q
  refine r_aload_n 0 1 0 rfl rfl rfl ?_
  refine r_get (v := va_rf p6) fl_J8_101_J8 1 4 rfl rfl o1 rfl ?_
  refine x_astoreP (p := p6) (lv' := [(4, va_rf p6), (0, .ref a1), (1, .ref a2), (2, .ref a3), (3, .int 1)]) 2 6 rfl rfl (Nat.le_of_ble_eq_true rfl) (by cases p6 <;> rfl) ?_
  refine x_aloadP (p := p6) 3 8 0 rfl rfl rfl ?_
  cases p6 with
  | none =>
    refine r_ifnonnullN 4 11 rfl rfl ?_
    refine r_aload_n 5 12 1 rfl rfl rfl ?_
    refine r_aload_n 6 13 2 rfl rfl rfl ?_
    refine r_aload_n 7 14 3 rfl rfl rfl ?_
    exact r_callV lkV_J8_135_J8 (C := RJ8) (TT := TJ8) (NN := 9) rfl o1 8 17 rfl rfl (by decide) [.ref a2, .ref a3] rfl rfl (Nat.le_of_ble_eq_true rfl) (Nat.le_of_ble_eq_true rfl) (e2 rfl) (fun r w' h => Af.sub [] rfl ((k2 rfl) r w' h))
  | some pa12 =>
    refine r_ifnonnull 4 19 rfl rfl ?_
    refine r_aload_n 11 20 1 rfl rfl rfl ?_
    refine r_get (v := .null) fl_J8_16_J8 12 23 rfl rfl o1 rfl ?_
    refine r_astoreN (lv' := [(7, .null), (4, .ref pa12), (0, .ref a1), (1, .ref a2), (2, .ref a3), (3, .int 1)]) 13 25 rfl rfl (Nat.le_of_ble_eq_true rfl) rfl ?_
    refine r_aloadN 14 27 0 rfl rfl rfl ?_
    refine r_ifnullN 15 112 rfl rfl ?_
    refine r_aload_n 51 113 3 rfl rfl rfl ?_
    refine r_callS lkS_J8_95 52 116 rfl rfl (by decide) [.ref a2] rfl rfl (Nat.le_of_ble_eq_true rfl) (Nat.le_of_ble_eq_true rfl) (e_J25_requireNonNull hS (k1 := ?_)) (fun _ _ h => h)
    show Rn G mJ8_put_2 116 [(7, .null), (4, .ref pa12), (0, .ref a1), (1, .ref a2), (2, .ref a3), (3, .int 1)] [.ref a2] w _
    refine r_pop 53 117 rfl rfl rfl ?_
    refine r_aload_n 54 118 3 rfl rfl rfl ?_
    refine r_castY (C := RJ20) (TT := TJ20) (NN := 1) rfl q974 q997 55 121 rfl rfl o3 ?_
    refine r_astore (lv' := [(8, .ref a2), (7, .null), (4, .ref pa12), (0, .ref a1), (1, .ref a2), (2, .ref a3), (3, .int 1)]) 56 123 rfl rfl (Nat.le_of_ble_eq_true rfl) rfl ?_
    exact r_sub [3, 4, 5, 6, 2, 0] rfl (k4 pa12 rfl)
theorem e_J8_put_2_123 {G : Gm} {κ : Nat → Nat} {φ : Nat → Option Nat} (hS : GS G κ φ) {w : Wd} {Q : Rs → Wd → Prop} {a1 : Nat} {a2 : Nat} {a3 : Nat} {a4 : Nat} {a5 : Nat} {a6 : Nat} {a7 : Nat} {p8 : Option Nat} {p9 : Option Nat} {p10 : Option Nat} {x11 : Int32} {x12 : Int32} {x13 : Int32} {p15 : Option Nat} {p16 : Option Nat} {p17 : Option Nat} {m18 : Nat} {x19 : Int32} {p20 : Option Nat} {p21 : Option Nat} {p22 : Option Nat} (o1 : w.1 a4 = some (.inl (nJ29, [.ref a6, .ref a7, va_rf p8, va_rf p9, va_rf p10, .int x11]))) (o2 : Lk G w a5 (.inl (nJ20, [.int x12]))) (o3 : Lk G w a6 (.inl (nJ20, [.int x13]))) (o4 : Lk G w a1 (.inl (nJ8, [va_rf p15, va_rf p16, .null, va_rf p17, .int (nI m18), .int x19, va_rf p20, va_rf p21, va_rf p22]))) {Q5 : Rs → Wd → Prop} (e5 : x13 ≤ x12 → ¬ x12 = x13 → p9 = none → Ev G mJ8_addEntry [.ref a1, .ref a2, .ref a3, .ref a4, .int 0] w Q5) (k5 : x13 ≤ x12 → ¬ x12 = x13 → p9 = none → ∀ r w', Q5 r w' → Af G mJ8_put_2 216 219 [] [] r w' Q) (k6 : x13 ≤ x12 → ¬ x12 = x13 → ∀ pa14 : Nat, p9 = some pa14 → Rn G mJ8_put_2 123 [(0, .ref a1), (1, .ref a2), (2, .ref a3), (3, .int 1), (4, .ref pa14), (8, .ref a5)] [] w Q) (k7 : x13 ≤ x12 → x12 = x13 → Q (.inl (some (.ref a7))) (wset w a4 (.inl (nJ29, [.ref a6, .ref a3, va_rf p8, va_rf p9, va_rf p10, .int x11])))) {Q8 : Rs → Wd → Prop} (e8 : ¬ x13 ≤ x12 → p8 = none → Ev G mJ8_addEntry [.ref a1, .ref a2, .ref a3, .ref a4, .int 1] w Q8) (k8 : ¬ x13 ≤ x12 → p8 = none → ∀ r w', Q8 r w' → Af G mJ8_put_2 216 219 [] [] r w' Q) (k9 : ¬ x13 ≤ x12 → ∀ pa23 : Nat, p8 = some pa23 → Rn G mJ8_put_2 123 [(0, .ref a1), (1, .ref a2), (2, .ref a3), (3, .int 1), (4, .ref pa23), (8, .ref a5)] [] w Q) : Rn G mJ8_put_2 123 [(0, .ref a1), (1, .ref a2), (2, .ref a3), (3, .int 1), (4, .ref a4), (8, .ref a5)] [] w Q := by
  refine r_aload 57 125 4 rfl rfl rfl ?_
  refine r_astore (lv' := [(6, .ref a4), (0, .ref a1), (1, .ref a2), (2, .ref a3), (3, .int 1), (4, .ref a4), (8, .ref a5)]) 58 127 rfl rfl (Nat.le_of_ble_eq_true rfl) rfl ?_
  refine r_aload 59 129 6 rfl rfl rfl ?_
  refine r_aload 60 131 5 rfl rfl rfl ?_
  refine r_get (v := .ref a6) fl_J8_105_J29 61 134 rfl rfl (Or.inl o1) rfl ?_
  refine r_callF lkF_J8_107_J20 (C := RJ20) (TT := TJ20) (NN := 1) rfl o2 62 139 rfl rfl (by decide) [.ref a6] rfl rfl (Nat.le_of_ble_eq_true rfl) (Nat.le_of_ble_eq_true rfl) (e_J20_compareTo hS (o1 := o3) (o2 := o2) (k3 := fun z0_0 => fun z0_1 => ?_) (k4 := fun z0_0 => fun z0_1 => ?_) (k5 := fun z0_0 => ?_)) (fun _ _ h => h)
  · show Rn G mJ8_put_2 139 [(6, .ref a4), (0, .ref a1), (1, .ref a2), (2, .ref a3), (3, .int 1), (4, .ref a4), (8, .ref a5)] [.int 1] w _
    refine r_istore (lv' := [(5, .int 1), (6, .ref a4), (0, .ref a1), (1, .ref a2), (2, .ref a3), (3, .int 1), (4, .ref a4), (8, .ref a5)]) 63 141 rfl rfl (Nat.le_of_ble_eq_true rfl) rfl ?_
    refine r_iload 64 143 0 rfl rfl rfl ?_
    refine r_if_ge 65 146 156 rfl rfl rfl (fun _ => ?_) (fun c => absurd c (by decide))
    refine r_iload 70 158 0 rfl rfl rfl ?_
    refine r_if_le 71 161 171 rfl rfl rfl (fun c => absurd c (by decide)) (fun _ => ?_)
    refine r_aload 72 163 6 rfl rfl rfl ?_
    refine r_get (v := va_rf p9) fl_J8_114_J29 73 166 rfl rfl (Or.inl o1) rfl ?_
    refine x_astoreP (p := p9) (lv' := [(4, va_rf p9), (5, .int 1), (6, .ref a4), (0, .ref a1), (1, .ref a2), (2, .ref a3), (3, .int 1), (8, .ref a5)]) 74 168 rfl rfl (Nat.le_of_ble_eq_true rfl) (by cases p9 <;> rfl) ?_
    refine r_goto 75 196 rfl rfl ?_
    refine x_aloadP (p := p9) 88 198 0 rfl rfl rfl ?_
    cases p9 with
    | none =>
      refine r_ifnonnullN 89 201 rfl rfl ?_
      refine r_aload_n 90 202 3 rfl rfl rfl ?_
      refine r_aload_n 91 203 4 rfl rfl rfl ?_
      refine r_aload_n 92 204 5 rfl rfl rfl ?_
      refine r_aload 93 206 2 rfl rfl rfl ?_
      refine r_iload 94 208 1 rfl rfl rfl ?_
      refine r_if_ge 95 211 215 rfl rfl rfl (fun _ => ?_) (fun c => absurd c (by decide))
      refine r_iconst 98 216 rfl rfl di_0 ?_
      exact r_callV lkV_J8_139_J8 (C := RJ8) (TT := TJ8) (NN := 9) rfl o4 99 219 rfl rfl (by decide) [.ref a2, .ref a3, .ref a4, .int 0] rfl rfl (Nat.le_of_ble_eq_true rfl) (Nat.le_of_ble_eq_true rfl) (e5 z0_0 z0_1 rfl) (fun r w' h => Af.sub [] rfl ((k5 z0_0 z0_1 rfl) r w' h))
    | some pa14 =>
      refine r_ifnonnull 89 123 rfl rfl ?_
      exact r_sub [3, 4, 5, 6, 0, 7] rfl (k6 z0_0 z0_1 pa14 rfl)
  · show Rn G mJ8_put_2 139 [(6, .ref a4), (0, .ref a1), (1, .ref a2), (2, .ref a3), (3, .int 1), (4, .ref a4), (8, .ref a5)] [.int 0] w _
    refine r_istore (lv' := [(5, .int 0), (6, .ref a4), (0, .ref a1), (1, .ref a2), (2, .ref a3), (3, .int 1), (4, .ref a4), (8, .ref a5)]) 63 141 rfl rfl (Nat.le_of_ble_eq_true rfl) rfl ?_
    refine r_iload 64 143 0 rfl rfl rfl ?_
    refine r_if_ge 65 146 156 rfl rfl rfl (fun _ => ?_) (fun c => absurd c (by decide))
    refine r_iload 70 158 0 rfl rfl rfl ?_
    refine r_if_le 71 161 171 rfl rfl rfl (fun _ => ?_) (fun c => absurd c (by decide))
    refine r_aload 76 173 6 rfl rfl rfl ?_
    refine r_get (v := .ref a7) fl_J8_58_J29 77 176 rfl rfl (Or.inl o1) rfl ?_
    refine r_astore (lv' := [(9, .ref a7), (5, .int 0), (6, .ref a4), (0, .ref a1), (1, .ref a2), (2, .ref a3), (3, .int 1), (4, .ref a4), (8, .ref a5)]) 78 178 rfl rfl (Nat.le_of_ble_eq_true rfl) rfl ?_
    refine r_iload_n 79 179 6 rfl rfl rfl ?_
    refine r_if_ne 80 182 187 rfl rfl rfl (fun _ => ?_) (fun c => absurd c (by decide))
    refine r_aload 83 189 7 rfl rfl rfl ?_
    refine r_aload_n 84 190 5 rfl rfl rfl ?_
    refine r_put (i := 1) fl_J8_58_J29 in_J29 q1328 (ty0 := tyJ29) tyJ29_ok nmJ29 85 193 rfl rfl o1 rfl rfl rfl (Nat.le_of_ble_eq_true rfl) ?_
    show Rn G mJ8_put_2 193 [(9, .ref a7), (5, .int 0), (6, .ref a4), (0, .ref a1), (1, .ref a2), (2, .ref a3), (3, .int 1), (4, .ref a4), (8, .ref a5)] [] (wset w a4 (.inl (nJ29, [.ref a6, .ref a3, va_rf p8, va_rf p9, va_rf p10, .int x11]))) _
    refine r_aload 86 195 0 rfl rfl rfl ?_
    exact r_aret 87 rfl rfl (Or.inl ⟨_, rfl⟩) (Or.inr ⟨_, rfl⟩) (k7 z0_0 z0_1)
  · show Rn G mJ8_put_2 139 [(6, .ref a4), (0, .ref a1), (1, .ref a2), (2, .ref a3), (3, .int 1), (4, .ref a4), (8, .ref a5)] [.int (-1)] w _
    refine r_istore (lv' := [(5, .int (-1)), (6, .ref a4), (0, .ref a1), (1, .ref a2), (2, .ref a3), (3, .int 1), (4, .ref a4), (8, .ref a5)]) 63 141 rfl rfl (Nat.le_of_ble_eq_true rfl) rfl ?_
    refine r_iload 64 143 0 rfl rfl rfl ?_
    refine r_if_ge 65 146 156 rfl rfl rfl (fun c => absurd c (by decide)) (fun _ => ?_)
    refine r_aload 66 148 6 rfl rfl rfl ?_
    refine r_get (v := va_rf p8) fl_J8_111_J29 67 151 rfl rfl (Or.inl o1) rfl ?_
    refine x_astoreP (p := p8) (lv' := [(4, va_rf p8), (5, .int (-1)), (6, .ref a4), (0, .ref a1), (1, .ref a2), (2, .ref a3), (3, .int 1), (8, .ref a5)]) 68 153 rfl rfl (Nat.le_of_ble_eq_true rfl) (by cases p8 <;> rfl) ?_
    refine r_goto 69 196 rfl rfl ?_
    refine x_aloadP (p := p8) 88 198 0 rfl rfl rfl ?_
    cases p8 with
    | none =>
      refine r_ifnonnullN 89 201 rfl rfl ?_
      refine r_aload_n 90 202 3 rfl rfl rfl ?_
      refine r_aload_n 91 203 4 rfl rfl rfl ?_
      refine r_aload_n 92 204 5 rfl rfl rfl ?_
      refine r_aload 93 206 2 rfl rfl rfl ?_
      refine r_iload 94 208 1 rfl rfl rfl ?_
      refine r_if_ge 95 211 215 rfl rfl rfl (fun c => absurd c (by decide)) (fun _ => ?_)
      refine r_iconst 96 212 rfl rfl di_1 ?_
      refine r_goto 97 216 rfl rfl ?_
      exact r_callV lkV_J8_139_J8 (C := RJ8) (TT := TJ8) (NN := 9) rfl o4 99 219 rfl rfl (by decide) [.ref a2, .ref a3, .ref a4, .int 1] rfl rfl (Nat.le_of_ble_eq_true rfl) (Nat.le_of_ble_eq_true rfl) (e8 z0_0 rfl) (fun r w' h => Af.sub [] rfl ((k8 z0_0 rfl) r w' h))
    | some pa23 =>
      refine r_ifnonnull 89 123 rfl rfl ?_
      exact r_sub [3, 4, 5, 6, 0, 7] rfl (k9 z0_0 pa23 rfl)
theorem e_J8_put_2_17 {G : Gm} {κ : Nat → Nat} {φ : Nat → Option Nat} (hS : GS G κ φ) {w : Wd} {Q : Rs → Wd → Prop} (k1 : Q (.inl (some (.null))) w) : Rn G mJ8_put_2 17 [] [] w Q := by
  refine r_null 9 18 rfl rfl ?_
  exact r_aret 10 rfl rfl (Or.inl ⟨_, rfl⟩) (Or.inl rfl) k1
theorem e_J8_put_2_219 {G : Gm} {κ : Nat → Nat} {φ : Nat → Option Nat} (hS : GS G κ φ) {w : Wd} {Q : Rs → Wd → Prop} (k1 : Q (.inl (some (.null))) w) : Rn G mJ8_put_2 219 [] [] w Q := by
  refine r_null 100 220 rfl rfl ?_
  exact r_aret 101 rfl rfl (Or.inl ⟨_, rfl⟩) (Or.inl rfl) k1
theorem e_J8_put {G : Gm} {κ : Nat → Nat} {φ : Nat → Option Nat} (hS : GS G κ φ) {w : Wd} {Q : Rs → Wd → Prop} {a1 : Nat} {a2 : Nat} {a3 : Nat} {p4 : Option Nat} {p5 : Option Nat} {p6 : Option Nat} {m7 : Nat} {x8 : Int32} {p9 : Option Nat} {p10 : Option Nat} {p11 : Option Nat} (o1 : Lk G w a1 (.inl (nJ8, [va_rf p4, va_rf p5, .null, va_rf p6, .int (nI m7), .int x8, va_rf p9, va_rf p10, va_rf p11]))) {Q2 : Rs → Wd → Prop} (e2 : Ev G mJ8_put_2 [.ref a1, .ref a2, .ref a3, .int 1] w Q2) (k2 : ∀ r w', Q2 r w' → Af G mJ8_put 4 7 [] [] r w' Q) : Ev G mJ8_put [.ref a1, .ref a2, .ref a3] w Q := by
  show Rn G mJ8_put 0 [(0, .ref a1), (1, .ref a2), (2, .ref a3)] [] w Q
  refine r_aload_n 0 1 0 rfl rfl rfl ?_
  refine r_aload_n 1 2 1 rfl rfl rfl ?_
  refine r_aload_n 2 3 2 rfl rfl rfl ?_
  refine r_iconst 3 4 rfl rfl di_1 ?_
  exact r_callV lkV_J8_127_J8 (C := RJ8) (TT := TJ8) (NN := 9) rfl o1 4 7 rfl rfl (by decide) [.ref a2, .ref a3, .int 1] rfl rfl (Nat.le_of_ble_eq_true rfl) (Nat.le_of_ble_eq_true rfl) e2 (fun r w' h => Af.sub [] rfl (k2 r w' h))
theorem e_J8_put_7 {G : Gm} {κ : Nat → Nat} {φ : Nat → Option Nat} (hS : GS G κ φ) {w : Wd} {Q : Rs → Wd → Prop} (k1 : Q (.inl (some (.null))) w) : Rn G mJ8_put 7 [] [.null] w Q := by
  exact r_aret 5 rfl rfl (Or.inl ⟨_, rfl⟩) (Or.inl rfl) k1
theorem e_J8_addEntry {G : Gm} {κ : Nat → Nat} {φ : Nat → Option Nat} (hS : GS G κ φ) {w : Wd} {Q : Rs → Wd → Prop} {a1 : Nat} {a2 : Nat} {a3 : Nat} {a4 : Nat} {x5 : Int32} {a6 : Nat} {a7 : Nat} {p8 : Option Nat} {p9 : Option Nat} {p10 : Option Nat} {x11 : Int32} {p12 : Option Nat} {p13 : Option Nat} {p14 : Option Nat} {m15 : Nat} {x16 : Int32} {p17 : Option Nat} {p18 : Option Nat} {p19 : Option Nat} (hg : 18 ≤ w.2.2) (o1 : w.1 a4 = some (.inl (nJ29, [.ref a6, .ref a7, va_rf p8, va_rf p9, va_rf p10, .int x11]))) (o2 : Lk G w a1 (.inl (nJ8, [va_rf p12, va_rf p13, .null, va_rf p14, .int (nI m15), .int x16, va_rf p17, va_rf p18, va_rf p19]))) {Q3 : Rs → Wd → Prop} (e3 : x5 = 0 → Ev G mJ8_fixAfterInsertion [.ref a1, .ref w.2.1] (wset (wset (wnew w (.inl (nJ29, [.null, .null, .null, .null, .null, .int 0])) 6) w.2.1 (.inl (nJ29, [.ref a2, .ref a3, .null, .null, .ref a4, .int 1]))) a4 (.inl (nJ29, [.ref a6, .ref a7, va_rf p8, .ref w.2.1, va_rf p10, .int x11]))) Q3) (k3 : x5 = 0 → ∀ r w', Q3 r w' → Af G mJ8_addEntry 35 38 [(0, .ref a1)] [] r w' Q) {Q4 : Rs → Wd → Prop} (e4 : ¬ x5 = 0 → Ev G mJ8_fixAfterInsertion [.ref a1, .ref w.2.1] (wset (wset (wnew w (.inl (nJ29, [.null, .null, .null, .null, .null, .int 0])) 6) w.2.1 (.inl (nJ29, [.ref a2, .ref a3, .null, .null, .ref a4, .int 1]))) a4 (.inl (nJ29, [.ref a6, .ref a7, .ref w.2.1, va_rf p9, va_rf p10, .int x11]))) Q4) (k4 : ¬ x5 = 0 → ∀ r w', Q4 r w' → Af G mJ8_addEntry 35 38 [(0, .ref a1)] [] r w' Q) : Ev G mJ8_addEntry [.ref a1, .ref a2, .ref a3, .ref a4, .int x5] w Q := by
  show Rn G mJ8_addEntry 0 [(0, .ref a1), (1, .ref a2), (2, .ref a3), (3, .ref a4), (4, .int x5)] [] w Q
  refine Rn.wok fun hwk => ?_
  refine r_new (fs := [.null, .null, .null, .null, .null, .int 0]) (ty := tyJ29) (T := TJ29) (C := RJ29) (N := 6) (ci := nJ29) (n := 6) 0 3 rfl rfl rfl in_J29 tyJ29_ok q1327 q1328 q100 rfl (by decide) (by show 12 + 6 ≤ w.2.2; omega) ?_
  show Rn G mJ8_addEntry 3 [(0, .ref a1), (1, .ref a2), (2, .ref a3), (3, .ref a4), (4, .int x5)] [.ref w.2.1] (wnew w (.inl (nJ29, [.null, .null, .null, .null, .null, .int 0])) 6) _
  refine r_dup 1 4 rfl rfl rfl ?_
  refine r_aload_n 2 5 1 rfl rfl rfl ?_
  refine r_aload_n 3 6 2 rfl rfl rfl ?_
  refine r_aload_n 4 7 3 rfl rfl rfl ?_
  refine r_callI lkI_J8_167 5 10 rfl rfl (by decide) [.ref a2, .ref a3, .ref a4] rfl rfl (Nat.le_of_ble_eq_true rfl) (Nat.le_of_ble_eq_true rfl) (e_J29_init hS (p4 := (some a4)) (o1 := wnew_s) (k2 := ?_)) (fun _ _ h => h)
  show Rn G mJ8_addEntry 10 [(0, .ref a1), (1, .ref a2), (2, .ref a3), (3, .ref a4), (4, .int x5)] [.ref w.2.1] (wset (wnew w (.inl (nJ29, [.null, .null, .null, .null, .null, .int 0])) 6) w.2.1 (.inl (nJ29, [.ref a2, .ref a3, .null, .null, .ref a4, .int 1]))) _
  refine r_astore (lv' := [(5, .ref w.2.1), (0, .ref a1), (1, .ref a2), (2, .ref a3), (3, .ref a4), (4, .int x5)]) 6 12 rfl rfl (Nat.le_of_ble_eq_true rfl) rfl ?_
  refine r_iload 7 14 5 rfl rfl rfl ?_
  refine r_if_eq 8 17 26 rfl rfl rfl (fun c1 => ?_) (fun c1 => ?_)
  · refine r_aload_n 13 27 4 rfl rfl rfl ?_
    refine r_aload 14 29 0 rfl rfl rfl ?_
    refine r_put (i := 3) fl_J8_114_J29 in_J29 q1328 (ty0 := tyJ29) tyJ29_ok nmJ29 15 32 rfl rfl (wset_n (wnew_n o1 (by have := (hwk.1 _ _ o1).2; show a4 < w.2.1; omega)) (Nat.ne_of_lt (show a4 < w.2.1 from (by have := (hwk.1 _ _ o1).2; omega)))) rfl rfl rfl (Nat.le_of_ble_eq_true rfl) ?_
    show Rn G mJ8_addEntry 32 [(5, .ref w.2.1), (0, .ref a1), (1, .ref a2), (2, .ref a3), (3, .ref a4), (4, .int x5)] [] (wset (wset (wnew w (.inl (nJ29, [.null, .null, .null, .null, .null, .int 0])) 6) w.2.1 (.inl (nJ29, [.ref a2, .ref a3, .null, .null, .ref a4, .int 1]))) a4 (.inl (nJ29, [.ref a6, .ref a7, va_rf p8, .ref w.2.1, va_rf p10, .int x11]))) _
    refine r_aload_n 16 33 1 rfl rfl rfl ?_
    refine r_aload 17 35 0 rfl rfl rfl ?_
    exact r_callV lkV_J8_170_J8 (C := RJ8) (TT := TJ8) (NN := 9) rfl (Lk.set_n (Lk.set_n (Lk.new_n o2 (by have := (o2.lt hwk); show a1 < w.2.1; omega)) (Nat.ne_of_lt (show a1 < w.2.1 from (by have := Lk.lt o2 hwk; omega)))) (Lk.ne o2 o1 hwk (by intro h; simp at h))) 18 38 rfl rfl (by decide) [.ref w.2.1] rfl rfl (Nat.le_of_ble_eq_true rfl) (Nat.le_of_ble_eq_true rfl) (e3 c1) (fun r w' h => Af.sub [1] rfl ((k3 c1) r w' h))
  · refine r_aload_n 9 18 4 rfl rfl rfl ?_
    refine r_aload 10 20 0 rfl rfl rfl ?_
    refine r_put (i := 2) fl_J8_111_J29 in_J29 q1328 (ty0 := tyJ29) tyJ29_ok nmJ29 11 23 rfl rfl (wset_n (wnew_n o1 (by have := (hwk.1 _ _ o1).2; show a4 < w.2.1; omega)) (Nat.ne_of_lt (show a4 < w.2.1 from (by have := (hwk.1 _ _ o1).2; omega)))) rfl rfl rfl (Nat.le_of_ble_eq_true rfl) ?_
    show Rn G mJ8_addEntry 23 [(5, .ref w.2.1), (0, .ref a1), (1, .ref a2), (2, .ref a3), (3, .ref a4), (4, .int x5)] [] (wset (wset (wnew w (.inl (nJ29, [.null, .null, .null, .null, .null, .int 0])) 6) w.2.1 (.inl (nJ29, [.ref a2, .ref a3, .null, .null, .ref a4, .int 1]))) a4 (.inl (nJ29, [.ref a6, .ref a7, .ref w.2.1, va_rf p9, va_rf p10, .int x11]))) _
    refine r_goto 12 32 rfl rfl ?_
    refine r_aload_n 16 33 1 rfl rfl rfl ?_
    refine r_aload 17 35 0 rfl rfl rfl ?_
    exact r_callV lkV_J8_170_J8 (C := RJ8) (TT := TJ8) (NN := 9) rfl (Lk.set_n (Lk.set_n (Lk.new_n o2 (by have := (o2.lt hwk); show a1 < w.2.1; omega)) (Nat.ne_of_lt (show a1 < w.2.1 from (by have := Lk.lt o2 hwk; omega)))) (Lk.ne o2 o1 hwk (by intro h; simp at h))) 18 38 rfl rfl (by decide) [.ref w.2.1] rfl rfl (Nat.le_of_ble_eq_true rfl) (Nat.le_of_ble_eq_true rfl) (e4 c1) (fun r w' h => Af.sub [1] rfl ((k4 c1) r w' h))
theorem e_J8_addEntry_38 {G : Gm} {κ : Nat → Nat} {φ : Nat → Option Nat} (hS : GS G κ φ) {w : Wd} {Q : Rs → Wd → Prop} {a1 : Nat} {p2 : Option Nat} {p3 : Option Nat} {p4 : Option Nat} {m5 : Nat} {x6 : Int32} {p7 : Option Nat} {p8 : Option Nat} {p9 : Option Nat} (o1 : w.1 a1 = some (.inl (nJ8, [va_rf p2, va_rf p3, .null, va_rf p4, .int (nI m5), .int x6, va_rf p7, va_rf p8, va_rf p9]))) (k2 : Q (.inl none) (wset w a1 (.inl (nJ8, [va_rf p2, va_rf p3, .null, va_rf p4, .int (nI (m5 + 1)), .int (x6 + (1 : Int32)), va_rf p7, va_rf p8, va_rf p9])))) : Rn G mJ8_addEntry 38 [(0, .ref a1)] [] w Q := by
  refine r_aload_n 19 39 0 rfl rfl rfl ?_
  refine r_dup 20 40 rfl rfl rfl ?_
  refine r_get (v := .int (nI m5)) fl_J8_7_J8 21 43 rfl rfl (Or.inl o1) rfl ?_
  refine r_iconst 22 44 rfl rfl di_1 ?_
  refine r_iadd 23 45 rfl rfl ?_
  refine x_eq (y := (nI (m5 + 1))) (nI_add _ _) ?_
  refine r_put (i := 4) fl_J8_7_J8 in_J8 q176 (ty0 := tyJ8) tyJ8_ok nmJ8 24 48 rfl rfl o1 rfl rfl rfl (Nat.le_of_ble_eq_true rfl) ?_
  show Rn G mJ8_addEntry 48 [(0, .ref a1)] [] (wset w a1 (.inl (nJ8, [va_rf p2, va_rf p3, .null, va_rf p4, .int (nI (m5 + 1)), .int x6, va_rf p7, va_rf p8, va_rf p9]))) _
  refine r_aload_n 25 49 0 rfl rfl rfl ?_
  refine r_dup 26 50 rfl rfl rfl ?_
  refine r_get (v := .int x6) fl_J8_13_J8 27 53 rfl rfl (Or.inl wset_s) rfl ?_
  refine r_iconst 28 54 rfl rfl di_1 ?_
  refine r_iadd 29 55 rfl rfl ?_
  refine r_put (i := 5) fl_J8_13_J8 in_J8 q176 (ty0 := tyJ8) tyJ8_ok nmJ8 30 58 rfl rfl wset_s rfl rfl rfl (Nat.le_of_ble_eq_true rfl) ?_
  rw [wset_wset]
  show Rn G mJ8_addEntry 58 [(0, .ref a1)] [] (wset w a1 (.inl (nJ8, [va_rf p2, va_rf p3, .null, va_rf p4, .int (nI (m5 + 1)), .int (x6 + (1 : Int32)), va_rf p7, va_rf p8, va_rf p9]))) _
  exact r_vret 31 rfl rfl k2
theorem e_J8_rotateLeft {G : Gm} {κ : Nat → Nat} {φ : Nat → Option Nat} (hS : GS G κ φ) {w : Wd} {Q : Rs → Wd → Prop} {a1 : Nat} {a2 : Nat} {a3 : Nat} {a4 : Nat} {p5 : Option Nat} {p6 : Option Nat} {p7 : Option Nat} {x8 : Int32} {a10 : Nat} {a11 : Nat} {p12 : Option Nat} {p13 : Option Nat} {p14 : Option Nat} {x15 : Int32} {p18 : Option Nat} {p19 : Option Nat} {p20 : Option Nat} {m21 : Nat} {x22 : Int32} {p23 : Option Nat} {p24 : Option Nat} {p25 : Option Nat} {a26 : Nat} {a27 : Nat} {p28 : Option Nat} {p29 : Option Nat} {p30 : Option Nat} {x31 : Int32} {a33 : Nat} {a34 : Nat} {p35 : Option Nat} {p36 : Option Nat} {p37 : Option Nat} {x38 : Int32} {a40 : Nat} {a41 : Nat} {p42 : Option Nat} {p43 : Option Nat} {p44 : Option Nat} {x45 : Int32} (o1 : w.1 a2 = some (.inl (nJ29, [.ref a3, .ref a4, va_rf p5, va_rf p6, va_rf p7, .int x8]))) (f2 : ¬ p6 = none) (o3 : ∀ pa9 : Nat, p6 = some pa9 → w.1 pa9 = some (.inl (nJ29, [.ref a10, .ref a11, va_rf p12, va_rf p13, va_rf p14, .int x15]))) (ne4 : ∀ pa9 : Nat, p6 = some pa9 → pa9 ≠ a2) (ne5 : ∀ pa9 : Nat, p6 = some pa9 → p12 = none → a2 ≠ pa9) (o6 : w.1 a1 = some (.inl (nJ8, [va_rf p18, va_rf p19, .null, va_rf p20, .int (nI m21), .int x22, va_rf p23, va_rf p24, va_rf p25]))) (k7 : ∀ pa9 : Nat, p6 = some pa9 → p12 = none → p7 = none → Q (.inl none) (wset (wset (wset (wset (wset w a2 (.inl (nJ29, [.ref a3, .ref a4, va_rf p5, .null, .null, .int x8]))) pa9 (.inl (nJ29, [.ref a10, .ref a11, .null, va_rf p13, .null, .int x15]))) a1 (.inl (nJ8, [va_rf p18, va_rf p19, .null, .ref pa9, .int (nI m21), .int x22, va_rf p23, va_rf p24, va_rf p25]))) pa9 (.inl (nJ29, [.ref a10, .ref a11, .ref a2, va_rf p13, .null, .int x15]))) a2 (.inl (nJ29, [.ref a3, .ref a4, va_rf p5, .null, .ref pa9, .int x8])))) (o8 : ∀ pa9 : Nat, p6 = some pa9 → p12 = none → ∀ pa17 : Nat, p7 = some pa17 → w.1 pa17 = some (.inl (nJ29, [.ref a26, .ref a27, va_rf p28, va_rf p29, va_rf p30, .int x31]))) (ne9 : ∀ pa9 : Nat, p6 = some pa9 → p12 = none → ∀ pa17 : Nat, p7 = some pa17 → pa17 ≠ a2) (ne10 : ∀ pa9 : Nat, p6 = some pa9 → p12 = none → ∀ pa17 : Nat, p7 = some pa17 → pa17 ≠ pa9) (ne11 : ∀ pa9 : Nat, p6 = some pa9 → p12 = none → ∀ pa17 : Nat, p7 = some pa17 → p28 = none → pa9 ≠ pa17) (ne12 : ∀ pa9 : Nat, p6 = some pa9 → p12 = none → ∀ pa17 : Nat, p7 = some pa17 → p28 = none → a2 ≠ pa17) (k13 : ∀ pa9 : Nat, p6 = some pa9 → p12 = none → ∀ pa17 : Nat, p7 = some pa17 → p28 = none → Q (.inl none) (wset (wset (wset (wset (wset w a2 (.inl (nJ29, [.ref a3, .ref a4, va_rf p5, .null, .ref pa17, .int x8]))) pa9 (.inl (nJ29, [.ref a10, .ref a11, .null, va_rf p13, .ref pa17, .int x15]))) pa17 (.inl (nJ29, [.ref a26, .ref a27, .null, .ref pa9, va_rf p30, .int x31]))) pa9 (.inl (nJ29, [.ref a10, .ref a11, .ref a2, va_rf p13, .ref pa17, .int x15]))) a2 (.inl (nJ29, [.ref a3, .ref a4, va_rf p5, .null, .ref pa9, .int x8])))) (ne14 : ∀ pa9 : Nat, p6 = some pa9 → p12 = none → ∀ pa17 : Nat, p7 = some pa17 → ∀ pa32 : Nat, p28 = some pa32 → ¬ pa32 = a2 → pa9 ≠ pa17) (ne15 : ∀ pa9 : Nat, p6 = some pa9 → p12 = none → ∀ pa17 : Nat, p7 = some pa17 → ∀ pa32 : Nat, p28 = some pa32 → ¬ pa32 = a2 → a2 ≠ pa17) (k16 : ∀ pa9 : Nat, p6 = some pa9 → p12 = none → ∀ pa17 : Nat, p7 = some pa17 → ∀ pa32 : Nat, p28 = some pa32 → ¬ pa32 = a2 → Q (.inl none) (wset (wset (wset (wset (wset w a2 (.inl (nJ29, [.ref a3, .ref a4, va_rf p5, .null, .ref pa17, .int x8]))) pa9 (.inl (nJ29, [.ref a10, .ref a11, .null, va_rf p13, .ref pa17, .int x15]))) pa17 (.inl (nJ29, [.ref a26, .ref a27, .ref pa32, .ref pa9, va_rf p30, .int x31]))) pa9 (.inl (nJ29, [.ref a10, .ref a11, .ref a2, va_rf p13, .ref pa17, .int x15]))) a2 (.inl (nJ29, [.ref a3, .ref a4, va_rf p5, .null, .ref pa9, .int x8])))) (ne17 : ∀ pa9 : Nat, p6 = some pa9 → p12 = none → ∀ pa17 : Nat, p7 = some pa17 → ∀ pa32 : Nat, p28 = some pa32 → pa32 = a2 → pa9 ≠ pa17) (ne18 : ∀ pa9 : Nat, p6 = some pa9 → p12 = none → ∀ pa17 : Nat, p7 = some pa17 → ∀ pa32 : Nat, p28 = some pa32 → pa32 = a2 → a2 ≠ pa17) (k19 : ∀ pa9 : Nat, p6 = some pa9 → p12 = none → ∀ pa17 : Nat, p7 = some pa17 → ∀ pa32 : Nat, p28 = some pa32 → pa32 = a2 → Q (.inl none) (wset (wset (wset (wset (wset w a2 (.inl (nJ29, [.ref a3, .ref a4, va_rf p5, .null, .ref pa17, .int x8]))) pa9 (.inl (nJ29, [.ref a10, .ref a11, .null, va_rf p13, .ref pa17, .int x15]))) pa17 (.inl (nJ29, [.ref a26, .ref a27, .ref pa9, va_rf p29, va_rf p30, .int x31]))) pa9 (.inl (nJ29, [.ref a10, .ref a11, .ref a2, va_rf p13, .ref pa17, .int x15]))) a2 (.inl (nJ29, [.ref a3, .ref a4, va_rf p5, .null, .ref pa9, .int x8])))) (o20 : ∀ pa9 : Nat, p6 = some pa9 → ∀ pa16 : Nat, p12 = some pa16 → w.1 pa16 = some (.inl (nJ29, [.ref a33, .ref a34, va_rf p35, va_rf p36, va_rf p37, .int x38]))) (ne21 : ∀ pa9 : Nat, p6 = some pa9 → ∀ pa16 : Nat, p12 = some pa16 → pa16 ≠ a2) (ne22 : ∀ pa9 : Nat, p6 = some pa9 → ∀ pa16 : Nat, p12 = some pa16 → a2 ≠ pa16) (ne23 : ∀ pa9 : Nat, p6 = some pa9 → ∀ pa16 : Nat, p12 = some pa16 → pa9 ≠ pa16) (ne24 : ∀ pa9 : Nat, p6 = some pa9 → ∀ pa16 : Nat, p12 = some pa16 → a2 ≠ pa9) (k25 : ∀ pa9 : Nat, p6 = some pa9 → ∀ pa16 : Nat, p12 = some pa16 → p7 = none → Q (.inl none) (wset (wset (wset (wset (wset (wset w a2 (.inl (nJ29, [.ref a3, .ref a4, va_rf p5, .ref pa16, .null, .int x8]))) pa16 (.inl (nJ29, [.ref a33, .ref a34, va_rf p35, va_rf p36, .ref a2, .int x38]))) pa9 (.inl (nJ29, [.ref a10, .ref a11, .ref pa16, va_rf p13, .null, .int x15]))) a1 (.inl (nJ8, [va_rf p18, va_rf p19, .null, .ref pa9, .int (nI m21), .int x22, va_rf p23, va_rf p24, va_rf p25]))) pa9 (.inl (nJ29, [.ref a10, .ref a11, .ref a2, va_rf p13, .null, .int x15]))) a2 (.inl (nJ29, [.ref a3, .ref a4, va_rf p5, .ref pa16, .ref pa9, .int x8])))) (o26 : ∀ pa9 : Nat, p6 = some pa9 → ∀ pa16 : Nat, p12 = some pa16 → ∀ pa39 : Nat, p7 = some pa39 → w.1 pa39 = some (.inl (nJ29, [.ref a40, .ref a41, va_rf p42, va_rf p43, va_rf p44, .int x45]))) (ne27 : ∀ pa9 : Nat, p6 = some pa9 → ∀ pa16 : Nat, p12 = some pa16 → ∀ pa39 : Nat, p7 = some pa39 → pa39 ≠ a2) (ne28 : ∀ pa9 : Nat, p6 = some pa9 → ∀ pa16 : Nat, p12 = some pa16 → ∀ pa39 : Nat, p7 = some pa39 → pa39 ≠ pa16) (ne29 : ∀ pa9 : Nat, p6 = some pa9 → ∀ pa16 : Nat, p12 = some pa16 → ∀ pa39 : Nat, p7 = some pa39 → pa39 ≠ pa9) (ne30 : ∀ pa9 : Nat, p6 = some pa9 → ∀ pa16 : Nat, p12 = some pa16 → ∀ pa39 : Nat, p7 = some pa39 → p42 = none → pa9 ≠ pa39) (ne31 : ∀ pa9 : Nat, p6 = some pa9 → ∀ pa16 : Nat, p12 = some pa16 → ∀ pa39 : Nat, p7 = some pa39 → p42 = none → a2 ≠ pa39) (k32 : ∀ pa9 : Nat, p6 = some pa9 → ∀ pa16 : Nat, p12 = some pa16 → ∀ pa39 : Nat, p7 = some pa39 → p42 = none → Q (.inl none) (wset (wset (wset (wset (wset (wset w a2 (.inl (nJ29, [.ref a3, .ref a4, va_rf p5, .ref pa16, .ref pa39, .int x8]))) pa16 (.inl (nJ29, [.ref a33, .ref a34, va_rf p35, va_rf p36, .ref a2, .int x38]))) pa9 (.inl (nJ29, [.ref a10, .ref a11, .ref pa16, va_rf p13, .ref pa39, .int x15]))) pa39 (.inl (nJ29, [.ref a40, .ref a41, .null, .ref pa9, va_rf p44, .int x45]))) pa9 (.inl (nJ29, [.ref a10, .ref a11, .ref a2, va_rf p13, .ref pa39, .int x15]))) a2 (.inl (nJ29, [.ref a3, .ref a4, va_rf p5, .ref pa16, .ref pa9, .int x8])))) (ne33 : ∀ pa9 : Nat, p6 = some pa9 → ∀ pa16 : Nat, p12 = some pa16 → ∀ pa39 : Nat, p7 = some pa39 → ∀ pa46 : Nat, p42 = some pa46 → ¬ pa46 = a2 → pa9 ≠ pa39) (ne34 : ∀ pa9 : Nat, p6 = some pa9 → ∀ pa16 : Nat, p12 = some pa16 → ∀ pa39 : Nat, p7 = some pa39 → ∀ pa46 : Nat, p42 = some pa46 → ¬ pa46 = a2 → a2 ≠ pa39) (k35 : ∀ pa9 : Nat, p6 = some pa9 → ∀ pa16 : Nat, p12 = some pa16 → ∀ pa39 : Nat, p7 = some pa39 → ∀ pa46 : Nat, p42 = some pa46 → ¬ pa46 = a2 → Q (.inl none) (wset (wset (wset (wset (wset (wset w a2 (.inl (nJ29, [.ref a3, .ref a4, va_rf p5, .ref pa16, .ref pa39, .int x8]))) pa16 (.inl (nJ29, [.ref a33, .ref a34, va_rf p35, va_rf p36, .ref a2, .int x38]))) pa9 (.inl (nJ29, [.ref a10, .ref a11, .ref pa16, va_rf p13, .ref pa39, .int x15]))) pa39 (.inl (nJ29, [.ref a40, .ref a41, .ref pa46, .ref pa9, va_rf p44, .int x45]))) pa9 (.inl (nJ29, [.ref a10, .ref a11, .ref a2, va_rf p13, .ref pa39, .int x15]))) a2 (.inl (nJ29, [.ref a3, .ref a4, va_rf p5, .ref pa16, .ref pa9, .int x8])))) (ne36 : ∀ pa9 : Nat, p6 = some pa9 → ∀ pa16 : Nat, p12 = some pa16 → ∀ pa39 : Nat, p7 = some pa39 → ∀ pa46 : Nat, p42 = some pa46 → pa46 = a2 → pa9 ≠ pa39) (ne37 : ∀ pa9 : Nat, p6 = some pa9 → ∀ pa16 : Nat, p12 = some pa16 → ∀ pa39 : Nat, p7 = some pa39 → ∀ pa46 : Nat, p42 = some pa46 → pa46 = a2 → a2 ≠ pa39) (k38 : ∀ pa9 : Nat, p6 = some pa9 → ∀ pa16 : Nat, p12 = some pa16 → ∀ pa39 : Nat, p7 = some pa39 → ∀ pa46 : Nat, p42 = some pa46 → pa46 = a2 → Q (.inl none) (wset (wset (wset (wset (wset (wset w a2 (.inl (nJ29, [.ref a3, .ref a4, va_rf p5, .ref pa16, .ref pa39, .int x8]))) pa16 (.inl (nJ29, [.ref a33, .ref a34, va_rf p35, va_rf p36, .ref a2, .int x38]))) pa9 (.inl (nJ29, [.ref a10, .ref a11, .ref pa16, va_rf p13, .ref pa39, .int x15]))) pa39 (.inl (nJ29, [.ref a40, .ref a41, .ref pa9, va_rf p43, va_rf p44, .int x45]))) pa9 (.inl (nJ29, [.ref a10, .ref a11, .ref a2, va_rf p13, .ref pa39, .int x15]))) a2 (.inl (nJ29, [.ref a3, .ref a4, va_rf p5, .ref pa16, .ref pa9, .int x8])))) : Ev G mJ8_rotateLeft [.ref a1, .ref a2] w Q := by
  show Rn G mJ8_rotateLeft 0 [(0, .ref a1), (1, .ref a2)] [] w Q
  refine Rn.wok fun hwk => ?_
  refine r_aload_n 0 1 1 rfl rfl rfl ?_
  refine r_ifnull 1 4 rfl rfl ?_
  refine r_aload_n 2 5 1 rfl rfl rfl ?_
  refine r_get (v := va_rf p6) fl_J8_114_J29 3 8 rfl rfl (Or.inl o1) rfl ?_
  refine x_astoreP_n (p := p6) (lv' := [(2, va_rf p6), (0, .ref a1), (1, .ref a2)]) 4 9 rfl rfl (Nat.le_of_ble_eq_true rfl) (by cases p6 <;> rfl) ?_
  refine r_aload_n 5 10 2 rfl rfl rfl ?_
  refine x_aloadP_n (p := p6) 6 11 0 rfl rfl rfl ?_
  cases p6 with
  | none =>
    exact absurd rfl f2
  | some pa9 =>
    refine r_get (v := va_rf p12) fl_J8_111_J29 7 14 rfl rfl (Or.inl (o3 pa9 rfl)) rfl ?_
    refine r_put (i := 3) fl_J8_114_J29 in_J29 q1328 (ty0 := tyJ29) tyJ29_ok nmJ29 8 17 rfl rfl o1 rfl (by cases p12 <;> rfl) (by cases p12 <;> rfl) (Nat.le_of_ble_eq_true rfl) ?_
    show Rn G mJ8_rotateLeft 17 [(2, .ref pa9), (0, .ref a1), (1, .ref a2)] [] (wset w a2 (.inl (nJ29, [.ref a3, .ref a4, va_rf p5, va_rf p12, va_rf p7, .int x8]))) _
    refine r_aload_n 9 18 0 rfl rfl rfl ?_
    refine r_get (v := va_rf p12) fl_J8_111_J29 10 21 rfl rfl (Or.inl (wset_n (o3 pa9 rfl) (ne4 pa9 rfl))) rfl ?_
    cases p12 with
    | none =>
      refine r_ifnullN 11 32 rfl rfl ?_
      refine r_aload_n 16 33 0 rfl rfl rfl ?_
      refine r_aload_n 17 34 2 rfl rfl rfl ?_
      refine r_get (v := va_rf p7) fl_J8_124_J29 18 37 rfl rfl (Or.inl wset_s) rfl ?_
      refine r_put (i := 4) fl_J8_124_J29 in_J29 q1328 (ty0 := tyJ29) tyJ29_ok nmJ29 19 40 rfl rfl (wset_n (o3 pa9 rfl) (ne4 pa9 rfl)) rfl (by cases p7 <;> rfl) (by cases p7 <;> rfl) (Nat.le_of_ble_eq_true rfl) ?_
      show Rn G mJ8_rotateLeft 40 [(2, .ref pa9), (0, .ref a1), (1, .ref a2)] [] (wset (wset w a2 (.inl (nJ29, [.ref a3, .ref a4, va_rf p5, .null, va_rf p7, .int x8]))) pa9 (.inl (nJ29, [.ref a10, .ref a11, .null, va_rf p13, va_rf p7, .int x15]))) _
      refine r_aload_n 20 41 2 rfl rfl rfl ?_
      refine r_get (v := va_rf p7) fl_J8_124_J29 21 44 rfl rfl (Or.inl (wset_n wset_s (ne5 pa9 rfl rfl))) rfl ?_
      cases p7 with
      | none =>
        refine r_ifnonnullN 22 47 rfl rfl ?_
        refine r_aload_n 23 48 1 rfl rfl rfl ?_
        refine r_aload_n 24 49 0 rfl rfl rfl ?_
        refine r_put (i := 3) fl_J8_101_J8 in_J8 q176 (ty0 := tyJ8) tyJ8_ok nmJ8 25 52 rfl rfl (wset_n (wset_n o6 (Lk.ne (Or.inl o6) o1 hwk (by intro h; simp at h))) (Lk.ne (Or.inl o6) (o3 pa9 rfl) hwk (by intro h; simp at h))) rfl rfl rfl (Nat.le_of_ble_eq_true rfl) ?_
        show Rn G mJ8_rotateLeft 52 [(2, .ref pa9), (0, .ref a1), (1, .ref a2)] [] (wset (wset (wset w a2 (.inl (nJ29, [.ref a3, .ref a4, va_rf p5, .null, .null, .int x8]))) pa9 (.inl (nJ29, [.ref a10, .ref a11, .null, va_rf p13, .null, .int x15]))) a1 (.inl (nJ8, [va_rf p18, va_rf p19, .null, .ref pa9, .int (nI m21), .int x22, va_rf p23, va_rf p24, va_rf p25]))) _
        refine r_goto 26 85 rfl rfl ?_
        refine r_aload_n 41 86 0 rfl rfl rfl ?_
        refine r_aload_n 42 87 2 rfl rfl rfl ?_
        refine r_put (i := 2) fl_J8_111_J29 in_J29 q1328 (ty0 := tyJ29) tyJ29_ok nmJ29 43 90 rfl rfl (wset_n wset_s (Lk.ne (Or.inl (o3 pa9 rfl)) o6 hwk (by intro h; simp at h))) rfl rfl rfl (Nat.le_of_ble_eq_true rfl) ?_
        show Rn G mJ8_rotateLeft 90 [(2, .ref pa9), (0, .ref a1), (1, .ref a2)] [] (wset (wset (wset (wset w a2 (.inl (nJ29, [.ref a3, .ref a4, va_rf p5, .null, .null, .int x8]))) pa9 (.inl (nJ29, [.ref a10, .ref a11, .null, va_rf p13, .null, .int x15]))) a1 (.inl (nJ8, [va_rf p18, va_rf p19, .null, .ref pa9, .int (nI m21), .int x22, va_rf p23, va_rf p24, va_rf p25]))) pa9 (.inl (nJ29, [.ref a10, .ref a11, .ref a2, va_rf p13, .null, .int x15]))) _
        refine r_aload_n 44 91 2 rfl rfl rfl ?_
        refine r_aload_n 45 92 0 rfl rfl rfl ?_
        refine r_put (i := 4) fl_J8_124_J29 in_J29 q1328 (ty0 := tyJ29) tyJ29_ok nmJ29 46 95 rfl rfl (wset_n (wset_n (wset_n wset_s (ne5 pa9 rfl rfl)) (Lk.ne (Or.inl o1) o6 hwk (by intro h; simp at h))) (ne5 pa9 rfl rfl)) rfl rfl rfl (Nat.le_of_ble_eq_true rfl) ?_
        show Rn G mJ8_rotateLeft 95 [(2, .ref pa9), (0, .ref a1), (1, .ref a2)] [] (wset (wset (wset (wset (wset w a2 (.inl (nJ29, [.ref a3, .ref a4, va_rf p5, .null, .null, .int x8]))) pa9 (.inl (nJ29, [.ref a10, .ref a11, .null, va_rf p13, .null, .int x15]))) a1 (.inl (nJ8, [va_rf p18, va_rf p19, .null, .ref pa9, .int (nI m21), .int x22, va_rf p23, va_rf p24, va_rf p25]))) pa9 (.inl (nJ29, [.ref a10, .ref a11, .ref a2, va_rf p13, .null, .int x15]))) a2 (.inl (nJ29, [.ref a3, .ref a4, va_rf p5, .null, .ref pa9, .int x8]))) _
        exact r_vret 47 rfl rfl (k7 pa9 rfl rfl rfl)
      | some pa17 =>
        refine r_ifnonnull 22 55 rfl rfl ?_
        refine r_aload_n 27 56 2 rfl rfl rfl ?_
        refine r_get (v := .ref pa17) fl_J8_124_J29 28 59 rfl rfl (Or.inl (wset_n wset_s (ne5 pa9 rfl rfl))) rfl ?_
        refine r_get (v := va_rf p28) fl_J8_111_J29 29 62 rfl rfl (Or.inl (wset_n (wset_n (o8 pa9 rfl rfl pa17 rfl) (ne9 pa9 rfl rfl pa17 rfl)) (ne10 pa9 rfl rfl pa17 rfl))) rfl ?_
        refine r_aload_n 30 63 2 rfl rfl rfl ?_
        cases p28 with
        | none =>
          refine r_acmp_ne (rx := none) (ry := (some a2)) 31 66 77 rfl rfl rfl rfl rfl (fun _ => ?_) (fun h => by cases h)
          refine r_aload_n 37 78 2 rfl rfl rfl ?_
          refine r_get (v := .ref pa17) fl_J8_124_J29 38 81 rfl rfl (Or.inl (wset_n wset_s (ne5 pa9 rfl rfl))) rfl ?_
          refine r_aload_n 39 82 0 rfl rfl rfl ?_
          refine r_put (i := 3) fl_J8_114_J29 in_J29 q1328 (ty0 := tyJ29) tyJ29_ok nmJ29 40 85 rfl rfl (wset_n (wset_n (o8 pa9 rfl rfl pa17 rfl) (ne9 pa9 rfl rfl pa17 rfl)) (ne10 pa9 rfl rfl pa17 rfl)) rfl rfl rfl (Nat.le_of_ble_eq_true rfl) ?_
          show Rn G mJ8_rotateLeft 85 [(2, .ref pa9), (0, .ref a1), (1, .ref a2)] [] (wset (wset (wset w a2 (.inl (nJ29, [.ref a3, .ref a4, va_rf p5, .null, .ref pa17, .int x8]))) pa9 (.inl (nJ29, [.ref a10, .ref a11, .null, va_rf p13, .ref pa17, .int x15]))) pa17 (.inl (nJ29, [.ref a26, .ref a27, .null, .ref pa9, va_rf p30, .int x31]))) _
          refine r_aload_n 41 86 0 rfl rfl rfl ?_
          refine r_aload_n 42 87 2 rfl rfl rfl ?_
          refine r_put (i := 2) fl_J8_111_J29 in_J29 q1328 (ty0 := tyJ29) tyJ29_ok nmJ29 43 90 rfl rfl (wset_n wset_s (ne11 pa9 rfl rfl pa17 rfl rfl)) rfl rfl rfl (Nat.le_of_ble_eq_true rfl) ?_
          show Rn G mJ8_rotateLeft 90 [(2, .ref pa9), (0, .ref a1), (1, .ref a2)] [] (wset (wset (wset (wset w a2 (.inl (nJ29, [.ref a3, .ref a4, va_rf p5, .null, .ref pa17, .int x8]))) pa9 (.inl (nJ29, [.ref a10, .ref a11, .null, va_rf p13, .ref pa17, .int x15]))) pa17 (.inl (nJ29, [.ref a26, .ref a27, .null, .ref pa9, va_rf p30, .int x31]))) pa9 (.inl (nJ29, [.ref a10, .ref a11, .ref a2, va_rf p13, .ref pa17, .int x15]))) _
          refine r_aload_n 44 91 2 rfl rfl rfl ?_
          refine r_aload_n 45 92 0 rfl rfl rfl ?_
          refine r_put (i := 4) fl_J8_124_J29 in_J29 q1328 (ty0 := tyJ29) tyJ29_ok nmJ29 46 95 rfl rfl (wset_n (wset_n (wset_n wset_s (ne5 pa9 rfl rfl)) (ne12 pa9 rfl rfl pa17 rfl rfl)) (ne5 pa9 rfl rfl)) rfl rfl rfl (Nat.le_of_ble_eq_true rfl) ?_
          show Rn G mJ8_rotateLeft 95 [(2, .ref pa9), (0, .ref a1), (1, .ref a2)] [] (wset (wset (wset (wset (wset w a2 (.inl (nJ29, [.ref a3, .ref a4, va_rf p5, .null, .ref pa17, .int x8]))) pa9 (.inl (nJ29, [.ref a10, .ref a11, .null, va_rf p13, .ref pa17, .int x15]))) pa17 (.inl (nJ29, [.ref a26, .ref a27, .null, .ref pa9, va_rf p30, .int x31]))) pa9 (.inl (nJ29, [.ref a10, .ref a11, .ref a2, va_rf p13, .ref pa17, .int x15]))) a2 (.inl (nJ29, [.ref a3, .ref a4, va_rf p5, .null, .ref pa9, .int x8]))) _
          exact r_vret 47 rfl rfl (k13 pa9 rfl rfl pa17 rfl rfl)
        | some pa32 =>
          refine r_acmp_ne (rx := (some pa32)) (ry := (some a2)) 31 66 77 rfl rfl rfl rfl rfl (fun c5 => ?_) (fun c5 => ?_)
          · refine r_aload_n 37 78 2 rfl rfl rfl ?_
            refine r_get (v := .ref pa17) fl_J8_124_J29 38 81 rfl rfl (Or.inl (wset_n wset_s (ne5 pa9 rfl rfl))) rfl ?_
            refine r_aload_n 39 82 0 rfl rfl rfl ?_
            refine r_put (i := 3) fl_J8_114_J29 in_J29 q1328 (ty0 := tyJ29) tyJ29_ok nmJ29 40 85 rfl rfl (wset_n (wset_n (o8 pa9 rfl rfl pa17 rfl) (ne9 pa9 rfl rfl pa17 rfl)) (ne10 pa9 rfl rfl pa17 rfl)) rfl rfl rfl (Nat.le_of_ble_eq_true rfl) ?_
            show Rn G mJ8_rotateLeft 85 [(2, .ref pa9), (0, .ref a1), (1, .ref a2)] [] (wset (wset (wset w a2 (.inl (nJ29, [.ref a3, .ref a4, va_rf p5, .null, .ref pa17, .int x8]))) pa9 (.inl (nJ29, [.ref a10, .ref a11, .null, va_rf p13, .ref pa17, .int x15]))) pa17 (.inl (nJ29, [.ref a26, .ref a27, .ref pa32, .ref pa9, va_rf p30, .int x31]))) _
            refine r_aload_n 41 86 0 rfl rfl rfl ?_
            refine r_aload_n 42 87 2 rfl rfl rfl ?_
            refine r_put (i := 2) fl_J8_111_J29 in_J29 q1328 (ty0 := tyJ29) tyJ29_ok nmJ29 43 90 rfl rfl (wset_n wset_s (ne14 pa9 rfl rfl pa17 rfl pa32 rfl (fun h => c5 (congrArg some h)))) rfl rfl rfl (Nat.le_of_ble_eq_true rfl) ?_
            show Rn G mJ8_rotateLeft 90 [(2, .ref pa9), (0, .ref a1), (1, .ref a2)] [] (wset (wset (wset (wset w a2 (.inl (nJ29, [.ref a3, .ref a4, va_rf p5, .null, .ref pa17, .int x8]))) pa9 (.inl (nJ29, [.ref a10, .ref a11, .null, va_rf p13, .ref pa17, .int x15]))) pa17 (.inl (nJ29, [.ref a26, .ref a27, .ref pa32, .ref pa9, va_rf p30, .int x31]))) pa9 (.inl (nJ29, [.ref a10, .ref a11, .ref a2, va_rf p13, .ref pa17, .int x15]))) _
            refine r_aload_n 44 91 2 rfl rfl rfl ?_
            refine r_aload_n 45 92 0 rfl rfl rfl ?_
            refine r_put (i := 4) fl_J8_124_J29 in_J29 q1328 (ty0 := tyJ29) tyJ29_ok nmJ29 46 95 rfl rfl (wset_n (wset_n (wset_n wset_s (ne5 pa9 rfl rfl)) (ne15 pa9 rfl rfl pa17 rfl pa32 rfl (fun h => c5 (congrArg some h)))) (ne5 pa9 rfl rfl)) rfl rfl rfl (Nat.le_of_ble_eq_true rfl) ?_
            show Rn G mJ8_rotateLeft 95 [(2, .ref pa9), (0, .ref a1), (1, .ref a2)] [] (wset (wset (wset (wset (wset w a2 (.inl (nJ29, [.ref a3, .ref a4, va_rf p5, .null, .ref pa17, .int x8]))) pa9 (.inl (nJ29, [.ref a10, .ref a11, .null, va_rf p13, .ref pa17, .int x15]))) pa17 (.inl (nJ29, [.ref a26, .ref a27, .ref pa32, .ref pa9, va_rf p30, .int x31]))) pa9 (.inl (nJ29, [.ref a10, .ref a11, .ref a2, va_rf p13, .ref pa17, .int x15]))) a2 (.inl (nJ29, [.ref a3, .ref a4, va_rf p5, .null, .ref pa9, .int x8]))) _
            exact r_vret 47 rfl rfl (k16 pa9 rfl rfl pa17 rfl pa32 rfl (fun h => c5 (congrArg some h)))
          · refine r_aload_n 32 67 2 rfl rfl rfl ?_
            refine r_get (v := .ref pa17) fl_J8_124_J29 33 70 rfl rfl (Or.inl (wset_n wset_s (ne5 pa9 rfl rfl))) rfl ?_
            refine r_aload_n 34 71 0 rfl rfl rfl ?_
            refine r_put (i := 2) fl_J8_111_J29 in_J29 q1328 (ty0 := tyJ29) tyJ29_ok nmJ29 35 74 rfl rfl (wset_n (wset_n (o8 pa9 rfl rfl pa17 rfl) (ne9 pa9 rfl rfl pa17 rfl)) (ne10 pa9 rfl rfl pa17 rfl)) rfl rfl rfl (Nat.le_of_ble_eq_true rfl) ?_
            show Rn G mJ8_rotateLeft 74 [(2, .ref pa9), (0, .ref a1), (1, .ref a2)] [] (wset (wset (wset w a2 (.inl (nJ29, [.ref a3, .ref a4, va_rf p5, .null, .ref pa17, .int x8]))) pa9 (.inl (nJ29, [.ref a10, .ref a11, .null, va_rf p13, .ref pa17, .int x15]))) pa17 (.inl (nJ29, [.ref a26, .ref a27, .ref pa9, va_rf p29, va_rf p30, .int x31]))) _
            refine r_goto 36 85 rfl rfl ?_
            refine r_aload_n 41 86 0 rfl rfl rfl ?_
            refine r_aload_n 42 87 2 rfl rfl rfl ?_
            refine r_put (i := 2) fl_J8_111_J29 in_J29 q1328 (ty0 := tyJ29) tyJ29_ok nmJ29 43 90 rfl rfl (wset_n wset_s (ne17 pa9 rfl rfl pa17 rfl pa32 rfl (Option.some.inj c5))) rfl rfl rfl (Nat.le_of_ble_eq_true rfl) ?_
            show Rn G mJ8_rotateLeft 90 [(2, .ref pa9), (0, .ref a1), (1, .ref a2)] [] (wset (wset (wset (wset w a2 (.inl (nJ29, [.ref a3, .ref a4, va_rf p5, .null, .ref pa17, .int x8]))) pa9 (.inl (nJ29, [.ref a10, .ref a11, .null, va_rf p13, .ref pa17, .int x15]))) pa17 (.inl (nJ29, [.ref a26, .ref a27, .ref pa9, va_rf p29, va_rf p30, .int x31]))) pa9 (.inl (nJ29, [.ref a10, .ref a11, .ref a2, va_rf p13, .ref pa17, .int x15]))) _
            refine r_aload_n 44 91 2 rfl rfl rfl ?_
            refine r_aload_n 45 92 0 rfl rfl rfl ?_
            refine r_put (i := 4) fl_J8_124_J29 in_J29 q1328 (ty0 := tyJ29) tyJ29_ok nmJ29 46 95 rfl rfl (wset_n (wset_n (wset_n wset_s (ne5 pa9 rfl rfl)) (ne18 pa9 rfl rfl pa17 rfl pa32 rfl (Option.some.inj c5))) (ne5 pa9 rfl rfl)) rfl rfl rfl (Nat.le_of_ble_eq_true rfl) ?_
            show Rn G mJ8_rotateLeft 95 [(2, .ref pa9), (0, .ref a1), (1, .ref a2)] [] (wset (wset (wset (wset (wset w a2 (.inl (nJ29, [.ref a3, .ref a4, va_rf p5, .null, .ref pa17, .int x8]))) pa9 (.inl (nJ29, [.ref a10, .ref a11, .null, va_rf p13, .ref pa17, .int x15]))) pa17 (.inl (nJ29, [.ref a26, .ref a27, .ref pa9, va_rf p29, va_rf p30, .int x31]))) pa9 (.inl (nJ29, [.ref a10, .ref a11, .ref a2, va_rf p13, .ref pa17, .int x15]))) a2 (.inl (nJ29, [.ref a3, .ref a4, va_rf p5, .null, .ref pa9, .int x8]))) _
            exact r_vret 47 rfl rfl (k19 pa9 rfl rfl pa17 rfl pa32 rfl (Option.some.inj c5))
    | some pa16 =>
      refine r_ifnull 11 24 rfl rfl ?_
      refine r_aload_n 12 25 0 rfl rfl rfl ?_
      refine r_get (v := .ref pa16) fl_J8_111_J29 13 28 rfl rfl (Or.inl (wset_n (o3 pa9 rfl) (ne4 pa9 rfl))) rfl ?_
      refine r_aload_n 14 29 2 rfl rfl rfl ?_
      refine r_put (i := 4) fl_J8_124_J29 in_J29 q1328 (ty0 := tyJ29) tyJ29_ok nmJ29 15 32 rfl rfl (wset_n (o20 pa9 rfl pa16 rfl) (ne21 pa9 rfl pa16 rfl)) rfl rfl rfl (Nat.le_of_ble_eq_true rfl) ?_
      show Rn G mJ8_rotateLeft 32 [(2, .ref pa9), (0, .ref a1), (1, .ref a2)] [] (wset (wset w a2 (.inl (nJ29, [.ref a3, .ref a4, va_rf p5, .ref pa16, va_rf p7, .int x8]))) pa16 (.inl (nJ29, [.ref a33, .ref a34, va_rf p35, va_rf p36, .ref a2, .int x38]))) _
      refine r_aload_n 16 33 0 rfl rfl rfl ?_
      refine r_aload_n 17 34 2 rfl rfl rfl ?_
      refine r_get (v := va_rf p7) fl_J8_124_J29 18 37 rfl rfl (Or.inl (wset_n wset_s (ne22 pa9 rfl pa16 rfl))) rfl ?_
      refine r_put (i := 4) fl_J8_124_J29 in_J29 q1328 (ty0 := tyJ29) tyJ29_ok nmJ29 19 40 rfl rfl (wset_n (wset_n (o3 pa9 rfl) (ne4 pa9 rfl)) (ne23 pa9 rfl pa16 rfl)) rfl (by cases p7 <;> rfl) (by cases p7 <;> rfl) (Nat.le_of_ble_eq_true rfl) ?_
      show Rn G mJ8_rotateLeft 40 [(2, .ref pa9), (0, .ref a1), (1, .ref a2)] [] (wset (wset (wset w a2 (.inl (nJ29, [.ref a3, .ref a4, va_rf p5, .ref pa16, va_rf p7, .int x8]))) pa16 (.inl (nJ29, [.ref a33, .ref a34, va_rf p35, va_rf p36, .ref a2, .int x38]))) pa9 (.inl (nJ29, [.ref a10, .ref a11, .ref pa16, va_rf p13, va_rf p7, .int x15]))) _
      refine r_aload_n 20 41 2 rfl rfl rfl ?_
      refine r_get (v := va_rf p7) fl_J8_124_J29 21 44 rfl rfl (Or.inl (wset_n (wset_n wset_s (ne22 pa9 rfl pa16 rfl)) (ne24 pa9 rfl pa16 rfl))) rfl ?_
      cases p7 with
      | none =>
        refine r_ifnonnullN 22 47 rfl rfl ?_
        refine r_aload_n 23 48 1 rfl rfl rfl ?_
        refine r_aload_n 24 49 0 rfl rfl rfl ?_
        refine r_put (i := 3) fl_J8_101_J8 in_J8 q176 (ty0 := tyJ8) tyJ8_ok nmJ8 25 52 rfl rfl (wset_n (wset_n (wset_n o6 (Lk.ne (Or.inl o6) o1 hwk (by intro h; simp at h))) (Lk.ne (Or.inl o6) (o20 pa9 rfl pa16 rfl) hwk (by intro h; simp at h))) (Lk.ne (Or.inl o6) (o3 pa9 rfl) hwk (by intro h; simp at h))) rfl rfl rfl (Nat.le_of_ble_eq_true rfl) ?_
        show Rn G mJ8_rotateLeft 52 [(2, .ref pa9), (0, .ref a1), (1, .ref a2)] [] (wset (wset (wset (wset w a2 (.inl (nJ29, [.ref a3, .ref a4, va_rf p5, .ref pa16, .null, .int x8]))) pa16 (.inl (nJ29, [.ref a33, .ref a34, va_rf p35, va_rf p36, .ref a2, .int x38]))) pa9 (.inl (nJ29, [.ref a10, .ref a11, .ref pa16, va_rf p13, .null, .int x15]))) a1 (.inl (nJ8, [va_rf p18, va_rf p19, .null, .ref pa9, .int (nI m21), .int x22, va_rf p23, va_rf p24, va_rf p25]))) _
        refine r_goto 26 85 rfl rfl ?_
        refine r_aload_n 41 86 0 rfl rfl rfl ?_
        refine r_aload_n 42 87 2 rfl rfl rfl ?_
        refine r_put (i := 2) fl_J8_111_J29 in_J29 q1328 (ty0 := tyJ29) tyJ29_ok nmJ29 43 90 rfl rfl (wset_n wset_s (Lk.ne (Or.inl (o3 pa9 rfl)) o6 hwk (by intro h; simp at h))) rfl rfl rfl (Nat.le_of_ble_eq_true rfl) ?_
        show Rn G mJ8_rotateLeft 90 [(2, .ref pa9), (0, .ref a1), (1, .ref a2)] [] (wset (wset (wset (wset (wset w a2 (.inl (nJ29, [.ref a3, .ref a4, va_rf p5, .ref pa16, .null, .int x8]))) pa16 (.inl (nJ29, [.ref a33, .ref a34, va_rf p35, va_rf p36, .ref a2, .int x38]))) pa9 (.inl (nJ29, [.ref a10, .ref a11, .ref pa16, va_rf p13, .null, .int x15]))) a1 (.inl (nJ8, [va_rf p18, va_rf p19, .null, .ref pa9, .int (nI m21), .int x22, va_rf p23, va_rf p24, va_rf p25]))) pa9 (.inl (nJ29, [.ref a10, .ref a11, .ref a2, va_rf p13, .null, .int x15]))) _
        refine r_aload_n 44 91 2 rfl rfl rfl ?_
        refine r_aload_n 45 92 0 rfl rfl rfl ?_
        refine r_put (i := 4) fl_J8_124_J29 in_J29 q1328 (ty0 := tyJ29) tyJ29_ok nmJ29 46 95 rfl rfl (wset_n (wset_n (wset_n (wset_n wset_s (ne22 pa9 rfl pa16 rfl)) (ne24 pa9 rfl pa16 rfl)) (Lk.ne (Or.inl o1) o6 hwk (by intro h; simp at h))) (ne24 pa9 rfl pa16 rfl)) rfl rfl rfl (Nat.le_of_ble_eq_true rfl) ?_
        show Rn G mJ8_rotateLeft 95 [(2, .ref pa9), (0, .ref a1), (1, .ref a2)] [] (wset (wset (wset (wset (wset (wset w a2 (.inl (nJ29, [.ref a3, .ref a4, va_rf p5, .ref pa16, .null, .int x8]))) pa16 (.inl (nJ29, [.ref a33, .ref a34, va_rf p35, va_rf p36, .ref a2, .int x38]))) pa9 (.inl (nJ29, [.ref a10, .ref a11, .ref pa16, va_rf p13, .null, .int x15]))) a1 (.inl (nJ8, [va_rf p18, va_rf p19, .null, .ref pa9, .int (nI m21), .int x22, va_rf p23, va_rf p24, va_rf p25]))) pa9 (.inl (nJ29, [.ref a10, .ref a11, .ref a2, va_rf p13, .null, .int x15]))) a2 (.inl (nJ29, [.ref a3, .ref a4, va_rf p5, .ref pa16, .ref pa9, .int x8]))) _
        exact r_vret 47 rfl rfl (k25 pa9 rfl pa16 rfl rfl)
      | some pa39 =>
        refine r_ifnonnull 22 55 rfl rfl ?_
        refine r_aload_n 27 56 2 rfl rfl rfl ?_
        refine r_get (v := .ref pa39) fl_J8_124_J29 28 59 rfl rfl (Or.inl (wset_n (wset_n wset_s (ne22 pa9 rfl pa16 rfl)) (ne24 pa9 rfl pa16 rfl))) rfl ?_
        refine r_get (v := va_rf p42) fl_J8_111_J29 29 62 rfl rfl (Or.inl (wset_n (wset_n (wset_n (o26 pa9 rfl pa16 rfl pa39 rfl) (ne27 pa9 rfl pa16 rfl pa39 rfl)) (ne28 pa9 rfl pa16 rfl pa39 rfl)) (ne29 pa9 rfl pa16 rfl pa39 rfl))) rfl ?_
        refine r_aload_n 30 63 2 rfl rfl rfl ?_
        cases p42 with
        | none =>
          refine r_acmp_ne (rx := none) (ry := (some a2)) 31 66 77 rfl rfl rfl rfl rfl (fun _ => ?_) (fun h => by cases h)
          refine r_aload_n 37 78 2 rfl rfl rfl ?_
          refine r_get (v := .ref pa39) fl_J8_124_J29 38 81 rfl rfl (Or.inl (wset_n (wset_n wset_s (ne22 pa9 rfl pa16 rfl)) (ne24 pa9 rfl pa16 rfl))) rfl ?_
          refine r_aload_n 39 82 0 rfl rfl rfl ?_
          refine r_put (i := 3) fl_J8_114_J29 in_J29 q1328 (ty0 := tyJ29) tyJ29_ok nmJ29 40 85 rfl rfl (wset_n (wset_n (wset_n (o26 pa9 rfl pa16 rfl pa39 rfl) (ne27 pa9 rfl pa16 rfl pa39 rfl)) (ne28 pa9 rfl pa16 rfl pa39 rfl)) (ne29 pa9 rfl pa16 rfl pa39 rfl)) rfl rfl rfl (Nat.le_of_ble_eq_true rfl) ?_
          show Rn G mJ8_rotateLeft 85 [(2, .ref pa9), (0, .ref a1), (1, .ref a2)] [] (wset (wset (wset (wset w a2 (.inl (nJ29, [.ref a3, .ref a4, va_rf p5, .ref pa16, .ref pa39, .int x8]))) pa16 (.inl (nJ29, [.ref a33, .ref a34, va_rf p35, va_rf p36, .ref a2, .int x38]))) pa9 (.inl (nJ29, [.ref a10, .ref a11, .ref pa16, va_rf p13, .ref pa39, .int x15]))) pa39 (.inl (nJ29, [.ref a40, .ref a41, .null, .ref pa9, va_rf p44, .int x45]))) _
          refine r_aload_n 41 86 0 rfl rfl rfl ?_
          refine r_aload_n 42 87 2 rfl rfl rfl ?_
          refine r_put (i := 2) fl_J8_111_J29 in_J29 q1328 (ty0 := tyJ29) tyJ29_ok nmJ29 43 90 rfl rfl (wset_n wset_s (ne30 pa9 rfl pa16 rfl pa39 rfl rfl)) rfl rfl rfl (Nat.le_of_ble_eq_true rfl) ?_
          show Rn G mJ8_rotateLeft 90 [(2, .ref pa9), (0, .ref a1), (1, .ref a2)] [] (wset (wset (wset (wset (wset w a2 (.inl (nJ29, [.ref a3, .ref a4, va_rf p5, .ref pa16, .ref pa39, .int x8]))) pa16 (.inl (nJ29, [.ref a33, .ref a34, va_rf p35, va_rf p36, .ref a2, .int x38]))) pa9 (.inl (nJ29, [.ref a10, .ref a11, .ref pa16, va_rf p13, .ref pa39, .int x15]))) pa39 (.inl (nJ29, [.ref a40, .ref a41, .null, .ref pa9, va_rf p44, .int x45]))) pa9 (.inl (nJ29, [.ref a10, .ref a11, .ref a2, va_rf p13, .ref pa39, .int x15]))) _
          refine r_aload_n 44 91 2 rfl rfl rfl ?_
          refine r_aload_n 45 92 0 rfl rfl rfl ?_
          refine r_put (i := 4) fl_J8_124_J29 in_J29 q1328 (ty0 := tyJ29) tyJ29_ok nmJ29 46 95 rfl rfl (wset_n (wset_n (wset_n (wset_n wset_s (ne22 pa9 rfl pa16 rfl)) (ne24 pa9 rfl pa16 rfl)) (ne31 pa9 rfl pa16 rfl pa39 rfl rfl)) (ne24 pa9 rfl pa16 rfl)) rfl rfl rfl (Nat.le_of_ble_eq_true rfl) ?_
          show Rn G mJ8_rotateLeft 95 [(2, .ref pa9), (0, .ref a1), (1, .ref a2)] [] (wset (wset (wset (wset (wset (wset w a2 (.inl (nJ29, [.ref a3, .ref a4, va_rf p5, .ref pa16, .ref pa39, .int x8]))) pa16 (.inl (nJ29, [.ref a33, .ref a34, va_rf p35, va_rf p36, .ref a2, .int x38]))) pa9 (.inl (nJ29, [.ref a10, .ref a11, .ref pa16, va_rf p13, .ref pa39, .int x15]))) pa39 (.inl (nJ29, [.ref a40, .ref a41, .null, .ref pa9, va_rf p44, .int x45]))) pa9 (.inl (nJ29, [.ref a10, .ref a11, .ref a2, va_rf p13, .ref pa39, .int x15]))) a2 (.inl (nJ29, [.ref a3, .ref a4, va_rf p5, .ref pa16, .ref pa9, .int x8]))) _
          exact r_vret 47 rfl rfl (k32 pa9 rfl pa16 rfl pa39 rfl rfl)
        | some pa46 =>
          refine r_acmp_ne (rx := (some pa46)) (ry := (some a2)) 31 66 77 rfl rfl rfl rfl rfl (fun c5 => ?_) (fun c5 => ?_)
          · refine r_aload_n 37 78 2 rfl rfl rfl ?_
            refine r_get (v := .ref pa39) fl_J8_124_J29 38 81 rfl rfl (Or.inl (wset_n (wset_n wset_s (ne22 pa9 rfl pa16 rfl)) (ne24 pa9 rfl pa16 rfl))) rfl ?_
            refine r_aload_n 39 82 0 rfl rfl rfl ?_
            refine r_put (i := 3) fl_J8_114_J29 in_J29 q1328 (ty0 := tyJ29) tyJ29_ok nmJ29 40 85 rfl rfl (wset_n (wset_n (wset_n (o26 pa9 rfl pa16 rfl pa39 rfl) (ne27 pa9 rfl pa16 rfl pa39 rfl)) (ne28 pa9 rfl pa16 rfl pa39 rfl)) (ne29 pa9 rfl pa16 rfl pa39 rfl)) rfl rfl rfl (Nat.le_of_ble_eq_true rfl) ?_
            show Rn G mJ8_rotateLeft 85 [(2, .ref pa9), (0, .ref a1), (1, .ref a2)] [] (wset (wset (wset (wset w a2 (.inl (nJ29, [.ref a3, .ref a4, va_rf p5, .ref pa16, .ref pa39, .int x8]))) pa16 (.inl (nJ29, [.ref a33, .ref a34, va_rf p35, va_rf p36, .ref a2, .int x38]))) pa9 (.inl (nJ29, [.ref a10, .ref a11, .ref pa16, va_rf p13, .ref pa39, .int x15]))) pa39 (.inl (nJ29, [.ref a40, .ref a41, .ref pa46, .ref pa9, va_rf p44, .int x45]))) _
            refine r_aload_n 41 86 0 rfl rfl rfl ?_
            refine r_aload_n 42 87 2 rfl rfl rfl ?_
            refine r_put (i := 2) fl_J8_111_J29 in_J29 q1328 (ty0 := tyJ29) tyJ29_ok nmJ29 43 90 rfl rfl (wset_n wset_s (ne33 pa9 rfl pa16 rfl pa39 rfl pa46 rfl (fun h => c5 (congrArg some h)))) rfl rfl rfl (Nat.le_of_ble_eq_true rfl) ?_
            show Rn G mJ8_rotateLeft 90 [(2, .ref pa9), (0, .ref a1), (1, .ref a2)] [] (wset (wset (wset (wset (wset w a2 (.inl (nJ29, [.ref a3, .ref a4, va_rf p5, .ref pa16, .ref pa39, .int x8]))) pa16 (.inl (nJ29, [.ref a33, .ref a34, va_rf p35, va_rf p36, .ref a2, .int x38]))) pa9 (.inl (nJ29, [.ref a10, .ref a11, .ref pa16, va_rf p13, .ref pa39, .int x15]))) pa39 (.inl (nJ29, [.ref a40, .ref a41, .ref pa46, .ref pa9, va_rf p44, .int x45]))) pa9 (.inl (nJ29, [.ref a10, .ref a11, .ref a2, va_rf p13, .ref pa39, .int x15]))) _
            refine r_aload_n 44 91 2 rfl rfl rfl ?_
            refine r_aload_n 45 92 0 rfl rfl rfl ?_
            refine r_put (i := 4) fl_J8_124_J29 in_J29 q1328 (ty0 := tyJ29) tyJ29_ok nmJ29 46 95 rfl rfl (wset_n (wset_n (wset_n (wset_n wset_s (ne22 pa9 rfl pa16 rfl)) (ne24 pa9 rfl pa16 rfl)) (ne34 pa9 rfl pa16 rfl pa39 rfl pa46 rfl (fun h => c5 (congrArg some h)))) (ne24 pa9 rfl pa16 rfl)) rfl rfl rfl (Nat.le_of_ble_eq_true rfl) ?_
            show Rn G mJ8_rotateLeft 95 [(2, .ref pa9), (0, .ref a1), (1, .ref a2)] [] (wset (wset (wset (wset (wset (wset w a2 (.inl (nJ29, [.ref a3, .ref a4, va_rf p5, .ref pa16, .ref pa39, .int x8]))) pa16 (.inl (nJ29, [.ref a33, .ref a34, va_rf p35, va_rf p36, .ref a2, .int x38]))) pa9 (.inl (nJ29, [.ref a10, .ref a11, .ref pa16, va_rf p13, .ref pa39, .int x15]))) pa39 (.inl (nJ29, [.ref a40, .ref a41, .ref pa46, .ref pa9, va_rf p44, .int x45]))) pa9 (.inl (nJ29, [.ref a10, .ref a11, .ref a2, va_rf p13, .ref pa39, .int x15]))) a2 (.inl (nJ29, [.ref a3, .ref a4, va_rf p5, .ref pa16, .ref pa9, .int x8]))) _
            exact r_vret 47 rfl rfl (k35 pa9 rfl pa16 rfl pa39 rfl pa46 rfl (fun h => c5 (congrArg some h)))
          · refine r_aload_n 32 67 2 rfl rfl rfl ?_
            refine r_get (v := .ref pa39) fl_J8_124_J29 33 70 rfl rfl (Or.inl (wset_n (wset_n wset_s (ne22 pa9 rfl pa16 rfl)) (ne24 pa9 rfl pa16 rfl))) rfl ?_
            refine r_aload_n 34 71 0 rfl rfl rfl ?_
            refine r_put (i := 2) fl_J8_111_J29 in_J29 q1328 (ty0 := tyJ29) tyJ29_ok nmJ29 35 74 rfl rfl (wset_n (wset_n (wset_n (o26 pa9 rfl pa16 rfl pa39 rfl) (ne27 pa9 rfl pa16 rfl pa39 rfl)) (ne28 pa9 rfl pa16 rfl pa39 rfl)) (ne29 pa9 rfl pa16 rfl pa39 rfl)) rfl rfl rfl (Nat.le_of_ble_eq_true rfl) ?_
            show Rn G mJ8_rotateLeft 74 [(2, .ref pa9), (0, .ref a1), (1, .ref a2)] [] (wset (wset (wset (wset w a2 (.inl (nJ29, [.ref a3, .ref a4, va_rf p5, .ref pa16, .ref pa39, .int x8]))) pa16 (.inl (nJ29, [.ref a33, .ref a34, va_rf p35, va_rf p36, .ref a2, .int x38]))) pa9 (.inl (nJ29, [.ref a10, .ref a11, .ref pa16, va_rf p13, .ref pa39, .int x15]))) pa39 (.inl (nJ29, [.ref a40, .ref a41, .ref pa9, va_rf p43, va_rf p44, .int x45]))) _
            refine r_goto 36 85 rfl rfl ?_
            refine r_aload_n 41 86 0 rfl rfl rfl ?_
            refine r_aload_n 42 87 2 rfl rfl rfl ?_
            refine r_put (i := 2) fl_J8_111_J29 in_J29 q1328 (ty0 := tyJ29) tyJ29_ok nmJ29 43 90 rfl rfl (wset_n wset_s (ne36 pa9 rfl pa16 rfl pa39 rfl pa46 rfl (Option.some.inj c5))) rfl rfl rfl (Nat.le_of_ble_eq_true rfl) ?_
            show Rn G mJ8_rotateLeft 90 [(2, .ref pa9), (0, .ref a1), (1, .ref a2)] [] (wset (wset (wset (wset (wset w a2 (.inl (nJ29, [.ref a3, .ref a4, va_rf p5, .ref pa16, .ref pa39, .int x8]))) pa16 (.inl (nJ29, [.ref a33, .ref a34, va_rf p35, va_rf p36, .ref a2, .int x38]))) pa9 (.inl (nJ29, [.ref a10, .ref a11, .ref pa16, va_rf p13, .ref pa39, .int x15]))) pa39 (.inl (nJ29, [.ref a40, .ref a41, .ref pa9, va_rf p43, va_rf p44, .int x45]))) pa9 (.inl (nJ29, [.ref a10, .ref a11, .ref a2, va_rf p13, .ref pa39, .int x15]))) _
            refine r_aload_n 44 91 2 rfl rfl rfl ?_
            refine r_aload_n 45 92 0 rfl rfl rfl ?_
            refine r_put (i := 4) fl_J8_124_J29 in_J29 q1328 (ty0 := tyJ29) tyJ29_ok nmJ29 46 95 rfl rfl (wset_n (wset_n (wset_n (wset_n wset_s (ne22 pa9 rfl pa16 rfl)) (ne24 pa9 rfl pa16 rfl)) (ne37 pa9 rfl pa16 rfl pa39 rfl pa46 rfl (Option.some.inj c5))) (ne24 pa9 rfl pa16 rfl)) rfl rfl rfl (Nat.le_of_ble_eq_true rfl) ?_
            show Rn G mJ8_rotateLeft 95 [(2, .ref pa9), (0, .ref a1), (1, .ref a2)] [] (wset (wset (wset (wset (wset (wset w a2 (.inl (nJ29, [.ref a3, .ref a4, va_rf p5, .ref pa16, .ref pa39, .int x8]))) pa16 (.inl (nJ29, [.ref a33, .ref a34, va_rf p35, va_rf p36, .ref a2, .int x38]))) pa9 (.inl (nJ29, [.ref a10, .ref a11, .ref pa16, va_rf p13, .ref pa39, .int x15]))) pa39 (.inl (nJ29, [.ref a40, .ref a41, .ref pa9, va_rf p43, va_rf p44, .int x45]))) pa9 (.inl (nJ29, [.ref a10, .ref a11, .ref a2, va_rf p13, .ref pa39, .int x15]))) a2 (.inl (nJ29, [.ref a3, .ref a4, va_rf p5, .ref pa16, .ref pa9, .int x8]))) _
            exact r_vret 47 rfl rfl (k38 pa9 rfl pa16 rfl pa39 rfl pa46 rfl (Option.some.inj c5))
theorem e_J8_rotateRight {G : Gm} {κ : Nat → Nat} {φ : Nat → Option Nat} (hS : GS G κ φ) {w : Wd} {Q : Rs → Wd → Prop} {a1 : Nat} {a2 : Nat} {a3 : Nat} {a4 : Nat} {p5 : Option Nat} {p6 : Option Nat} {p7 : Option Nat} {x8 : Int32} {a10 : Nat} {a11 : Nat} {p12 : Option Nat} {p13 : Option Nat} {p14 : Option Nat} {x15 : Int32} {p18 : Option Nat} {p19 : Option Nat} {p20 : Option Nat} {m21 : Nat} {x22 : Int32} {p23 : Option Nat} {p24 : Option Nat} {p25 : Option Nat} {a26 : Nat} {a27 : Nat} {p28 : Option Nat} {p29 : Option Nat} {p30 : Option Nat} {x31 : Int32} {a33 : Nat} {a34 : Nat} {p35 : Option Nat} {p36 : Option Nat} {p37 : Option Nat} {x38 : Int32} {a40 : Nat} {a41 : Nat} {p42 : Option Nat} {p43 : Option Nat} {p44 : Option Nat} {x45 : Int32} (o1 : w.1 a2 = some (.inl (nJ29, [.ref a3, .ref a4, va_rf p5, va_rf p6, va_rf p7, .int x8]))) (f2 : ¬ p5 = none) (o3 : ∀ pa9 : Nat, p5 = some pa9 → w.1 pa9 = some (.inl (nJ29, [.ref a10, .ref a11, va_rf p12, va_rf p13, va_rf p14, .int x15]))) (ne4 : ∀ pa9 : Nat, p5 = some pa9 → pa9 ≠ a2) (ne5 : ∀ pa9 : Nat, p5 = some pa9 → p13 = none → a2 ≠ pa9) (o6 : w.1 a1 = some (.inl (nJ8, [va_rf p18, va_rf p19, .null, va_rf p20, .int (nI m21), .int x22, va_rf p23, va_rf p24, va_rf p25]))) (k7 : ∀ pa9 : Nat, p5 = some pa9 → p13 = none → p7 = none → Q (.inl none) (wset (wset (wset (wset (wset w a2 (.inl (nJ29, [.ref a3, .ref a4, .null, va_rf p6, .null, .int x8]))) pa9 (.inl (nJ29, [.ref a10, .ref a11, va_rf p12, .null, .null, .int x15]))) a1 (.inl (nJ8, [va_rf p18, va_rf p19, .null, .ref pa9, .int (nI m21), .int x22, va_rf p23, va_rf p24, va_rf p25]))) pa9 (.inl (nJ29, [.ref a10, .ref a11, va_rf p12, .ref a2, .null, .int x15]))) a2 (.inl (nJ29, [.ref a3, .ref a4, .null, va_rf p6, .ref pa9, .int x8])))) (o8 : ∀ pa9 : Nat, p5 = some pa9 → p13 = none → ∀ pa17 : Nat, p7 = some pa17 → w.1 pa17 = some (.inl (nJ29, [.ref a26, .ref a27, va_rf p28, va_rf p29, va_rf p30, .int x31]))) (ne9 : ∀ pa9 : Nat, p5 = some pa9 → p13 = none → ∀ pa17 : Nat, p7 = some pa17 → pa17 ≠ a2) (ne10 : ∀ pa9 : Nat, p5 = some pa9 → p13 = none → ∀ pa17 : Nat, p7 = some pa17 → pa17 ≠ pa9) (ne11 : ∀ pa9 : Nat, p5 = some pa9 → p13 = none → ∀ pa17 : Nat, p7 = some pa17 → p29 = none → pa9 ≠ pa17) (ne12 : ∀ pa9 : Nat, p5 = some pa9 → p13 = none → ∀ pa17 : Nat, p7 = some pa17 → p29 = none → a2 ≠ pa17) (k13 : ∀ pa9 : Nat, p5 = some pa9 → p13 = none → ∀ pa17 : Nat, p7 = some pa17 → p29 = none → Q (.inl none) (wset (wset (wset (wset (wset w a2 (.inl (nJ29, [.ref a3, .ref a4, .null, va_rf p6, .ref pa17, .int x8]))) pa9 (.inl (nJ29, [.ref a10, .ref a11, va_rf p12, .null, .ref pa17, .int x15]))) pa17 (.inl (nJ29, [.ref a26, .ref a27, .ref pa9, .null, va_rf p30, .int x31]))) pa9 (.inl (nJ29, [.ref a10, .ref a11, va_rf p12, .ref a2, .ref pa17, .int x15]))) a2 (.inl (nJ29, [.ref a3, .ref a4, .null, va_rf p6, .ref pa9, .int x8])))) (ne14 : ∀ pa9 : Nat, p5 = some pa9 → p13 = none → ∀ pa17 : Nat, p7 = some pa17 → ∀ pa32 : Nat, p29 = some pa32 → ¬ pa32 = a2 → pa9 ≠ pa17) (ne15 : ∀ pa9 : Nat, p5 = some pa9 → p13 = none → ∀ pa17 : Nat, p7 = some pa17 → ∀ pa32 : Nat, p29 = some pa32 → ¬ pa32 = a2 → a2 ≠ pa17) (k16 : ∀ pa9 : Nat, p5 = some pa9 → p13 = none → ∀ pa17 : Nat, p7 = some pa17 → ∀ pa32 : Nat, p29 = some pa32 → ¬ pa32 = a2 → Q (.inl none) (wset (wset (wset (wset (wset w a2 (.inl (nJ29, [.ref a3, .ref a4, .null, va_rf p6, .ref pa17, .int x8]))) pa9 (.inl (nJ29, [.ref a10, .ref a11, va_rf p12, .null, .ref pa17, .int x15]))) pa17 (.inl (nJ29, [.ref a26, .ref a27, .ref pa9, .ref pa32, va_rf p30, .int x31]))) pa9 (.inl (nJ29, [.ref a10, .ref a11, va_rf p12, .ref a2, .ref pa17, .int x15]))) a2 (.inl (nJ29, [.ref a3, .ref a4, .null, va_rf p6, .ref pa9, .int x8])))) (ne17 : ∀ pa9 : Nat, p5 = some pa9 → p13 = none → ∀ pa17 : Nat, p7 = some pa17 → ∀ pa32 : Nat, p29 = some pa32 → pa32 = a2 → pa9 ≠ pa17) (ne18 : ∀ pa9 : Nat, p5 = some pa9 → p13 = none → ∀ pa17 : Nat, p7 = some pa17 → ∀ pa32 : Nat, p29 = some pa32 → pa32 = a2 → a2 ≠ pa17) (k19 : ∀ pa9 : Nat, p5 = some pa9 → p13 = none → ∀ pa17 : Nat, p7 = some pa17 → ∀ pa32 : Nat, p29 = some pa32 → pa32 = a2 → Q (.inl none) (wset (wset (wset (wset (wset w a2 (.inl (nJ29, [.ref a3, .ref a4, .null, va_rf p6, .ref pa17, .int x8]))) pa9 (.inl (nJ29, [.ref a10, .ref a11, va_rf p12, .null, .ref pa17, .int x15]))) pa17 (.inl (nJ29, [.ref a26, .ref a27, va_rf p28, .ref pa9, va_rf p30, .int x31]))) pa9 (.inl (nJ29, [.ref a10, .ref a11, va_rf p12, .ref a2, .ref pa17, .int x15]))) a2 (.inl (nJ29, [.ref a3, .ref a4, .null, va_rf p6, .ref pa9, .int x8])))) (o20 : ∀ pa9 : Nat, p5 = some pa9 → ∀ pa16 : Nat, p13 = some pa16 → w.1 pa16 = some (.inl (nJ29, [.ref a33, .ref a34, va_rf p35, va_rf p36, va_rf p37, .int x38]))) (ne21 : ∀ pa9 : Nat, p5 = some pa9 → ∀ pa16 : Nat, p13 = some pa16 → pa16 ≠ a2) (ne22 : ∀ pa9 : Nat, p5 = some pa9 → ∀ pa16 : Nat, p13 = some pa16 → a2 ≠ pa16) (ne23 : ∀ pa9 : Nat, p5 = some pa9 → ∀ pa16 : Nat, p13 = some pa16 → pa9 ≠ pa16) (ne24 : ∀ pa9 : Nat, p5 = some pa9 → ∀ pa16 : Nat, p13 = some pa16 → a2 ≠ pa9) (k25 : ∀ pa9 : Nat, p5 = some pa9 → ∀ pa16 : Nat, p13 = some pa16 → p7 = none → Q (.inl none) (wset (wset (wset (wset (wset (wset w a2 (.inl (nJ29, [.ref a3, .ref a4, .ref pa16, va_rf p6, .null, .int x8]))) pa16 (.inl (nJ29, [.ref a33, .ref a34, va_rf p35, va_rf p36, .ref a2, .int x38]))) pa9 (.inl (nJ29, [.ref a10, .ref a11, va_rf p12, .ref pa16, .null, .int x15]))) a1 (.inl (nJ8, [va_rf p18, va_rf p19, .null, .ref pa9, .int (nI m21), .int x22, va_rf p23, va_rf p24, va_rf p25]))) pa9 (.inl (nJ29, [.ref a10, .ref a11, va_rf p12, .ref a2, .null, .int x15]))) a2 (.inl (nJ29, [.ref a3, .ref a4, .ref pa16, va_rf p6, .ref pa9, .int x8])))) (o26 : ∀ pa9 : Nat, p5 = some pa9 → ∀ pa16 : Nat, p13 = some pa16 → ∀ pa39 : Nat, p7 = some pa39 → w.1 pa39 = some (.inl (nJ29, [.ref a40, .ref a41, va_rf p42, va_rf p43, va_rf p44, .int x45]))) (ne27 : ∀ pa9 : Nat, p5 = some pa9 → ∀ pa16 : Nat, p13 = some pa16 → ∀ pa39 : Nat, p7 = some pa39 → pa39 ≠ a2) (ne28 : ∀ pa9 : Nat, p5 = some pa9 → ∀ pa16 : Nat, p13 = some pa16 → ∀ pa39 : Nat, p7 = some pa39 → pa39 ≠ pa16) (ne29 : ∀ pa9 : Nat, p5 = some pa9 → ∀ pa16 : Nat, p13 = some pa16 → ∀ pa39 : Nat, p7 = some pa39 → pa39 ≠ pa9) (ne30 : ∀ pa9 : Nat, p5 = some pa9 → ∀ pa16 : Nat, p13 = some pa16 → ∀ pa39 : Nat, p7 = some pa39 → p43 = none → pa9 ≠ pa39) (ne31 : ∀ pa9 : Nat, p5 = some pa9 → ∀ pa16 : Nat, p13 = some pa16 → ∀ pa39 : Nat, p7 = some pa39 → p43 = none → a2 ≠ pa39) (k32 : ∀ pa9 : Nat, p5 = some pa9 → ∀ pa16 : Nat, p13 = some pa16 → ∀ pa39 : Nat, p7 = some pa39 → p43 = none → Q (.inl none) (wset (wset (wset (wset (wset (wset w a2 (.inl (nJ29, [.ref a3, .ref a4, .ref pa16, va_rf p6, .ref pa39, .int x8]))) pa16 (.inl (nJ29, [.ref a33, .ref a34, va_rf p35, va_rf p36, .ref a2, .int x38]))) pa9 (.inl (nJ29, [.ref a10, .ref a11, va_rf p12, .ref pa16, .ref pa39, .int x15]))) pa39 (.inl (nJ29, [.ref a40, .ref a41, .ref pa9, .null, va_rf p44, .int x45]))) pa9 (.inl (nJ29, [.ref a10, .ref a11, va_rf p12, .ref a2, .ref pa39, .int x15]))) a2 (.inl (nJ29, [.ref a3, .ref a4, .ref pa16, va_rf p6, .ref pa9, .int x8])))) (ne33 : ∀ pa9 : Nat, p5 = some pa9 → ∀ pa16 : Nat, p13 = some pa16 → ∀ pa39 : Nat, p7 = some pa39 → ∀ pa46 : Nat, p43 = some pa46 → ¬ pa46 = a2 → pa9 ≠ pa39) (ne34 : ∀ pa9 : Nat, p5 = some pa9 → ∀ pa16 : Nat, p13 = some pa16 → ∀ pa39 : Nat, p7 = some pa39 → ∀ pa46 : Nat, p43 = some pa46 → ¬ pa46 = a2 → a2 ≠ pa39) (k35 : ∀ pa9 : Nat, p5 = some pa9 → ∀ pa16 : Nat, p13 = some pa16 → ∀ pa39 : Nat, p7 = some pa39 → ∀ pa46 : Nat, p43 = some pa46 → ¬ pa46 = a2 → Q (.inl none) (wset (wset (wset (wset (wset (wset w a2 (.inl (nJ29, [.ref a3, .ref a4, .ref pa16, va_rf p6, .ref pa39, .int x8]))) pa16 (.inl (nJ29, [.ref a33, .ref a34, va_rf p35, va_rf p36, .ref a2, .int x38]))) pa9 (.inl (nJ29, [.ref a10, .ref a11, va_rf p12, .ref pa16, .ref pa39, .int x15]))) pa39 (.inl (nJ29, [.ref a40, .ref a41, .ref pa9, .ref pa46, va_rf p44, .int x45]))) pa9 (.inl (nJ29, [.ref a10, .ref a11, va_rf p12, .ref a2, .ref pa39, .int x15]))) a2 (.inl (nJ29, [.ref a3, .ref a4, .ref pa16, va_rf p6, .ref pa9, .int x8])))) (ne36 : ∀ pa9 : Nat, p5 = some pa9 → ∀ pa16 : Nat, p13 = some pa16 → ∀ pa39 : Nat, p7 = some pa39 → ∀ pa46 : Nat, p43 = some pa46 → pa46 = a2 → pa9 ≠ pa39) (ne37 : ∀ pa9 : Nat, p5 = some pa9 → ∀ pa16 : Nat, p13 = some pa16 → ∀ pa39 : Nat, p7 = some pa39 → ∀ pa46 : Nat, p43 = some pa46 → pa46 = a2 → a2 ≠ pa39) (k38 : ∀ pa9 : Nat, p5 = some pa9 → ∀ pa16 : Nat, p13 = some pa16 → ∀ pa39 : Nat, p7 = some pa39 → ∀ pa46 : Nat, p43 = some pa46 → pa46 = a2 → Q (.inl none) (wset (wset (wset (wset (wset (wset w a2 (.inl (nJ29, [.ref a3, .ref a4, .ref pa16, va_rf p6, .ref pa39, .int x8]))) pa16 (.inl (nJ29, [.ref a33, .ref a34, va_rf p35, va_rf p36, .ref a2, .int x38]))) pa9 (.inl (nJ29, [.ref a10, .ref a11, va_rf p12, .ref pa16, .ref pa39, .int x15]))) pa39 (.inl (nJ29, [.ref a40, .ref a41, va_rf p42, .ref pa9, va_rf p44, .int x45]))) pa9 (.inl (nJ29, [.ref a10, .ref a11, va_rf p12, .ref a2, .ref pa39, .int x15]))) a2 (.inl (nJ29, [.ref a3, .ref a4, .ref pa16, va_rf p6, .ref pa9, .int x8])))) : Ev G mJ8_rotateRight [.ref a1, .ref a2] w Q := by
  show Rn G mJ8_rotateRight 0 [(0, .ref a1), (1, .ref a2)] [] w Q
  refine Rn.wok fun hwk => ?_
  refine r_aload_n 0 1 1 rfl rfl rfl ?_
  refine r_ifnull 1 4 rfl rfl ?_
  refine r_aload_n 2 5 1 rfl rfl rfl ?_
  refine r_get (v := va_rf p5) fl_J8_111_J29 3 8 rfl rfl (Or.inl o1) rfl ?_
  refine x_astoreP_n (p := p5) (lv' := [(2, va_rf p5), (0, .ref a1), (1, .ref a2)]) 4 9 rfl rfl (Nat.le_of_ble_eq_true rfl) (by cases p5 <;> rfl) ?_
  refine r_aload_n 5 10 2 rfl rfl rfl ?_
  refine x_aloadP_n (p := p5) 6 11 0 rfl rfl rfl ?_
  cases p5 with
  | none =>
    exact absurd rfl f2
  | some pa9 =>
    refine r_get (v := va_rf p13) fl_J8_114_J29 7 14 rfl rfl (Or.inl (o3 pa9 rfl)) rfl ?_
    refine r_put (i := 2) fl_J8_111_J29 in_J29 q1328 (ty0 := tyJ29) tyJ29_ok nmJ29 8 17 rfl rfl o1 rfl (by cases p13 <;> rfl) (by cases p13 <;> rfl) (Nat.le_of_ble_eq_true rfl) ?_
    show Rn G mJ8_rotateRight 17 [(2, .ref pa9), (0, .ref a1), (1, .ref a2)] [] (wset w a2 (.inl (nJ29, [.ref a3, .ref a4, va_rf p13, va_rf p6, va_rf p7, .int x8]))) _
    refine r_aload_n 9 18 0 rfl rfl rfl ?_
    refine r_get (v := va_rf p13) fl_J8_114_J29 10 21 rfl rfl (Or.inl (wset_n (o3 pa9 rfl) (ne4 pa9 rfl))) rfl ?_
    cases p13 with
    | none =>
      refine r_ifnullN 11 32 rfl rfl ?_
      refine r_aload_n 16 33 0 rfl rfl rfl ?_
      refine r_aload_n 17 34 2 rfl rfl rfl ?_
      refine r_get (v := va_rf p7) fl_J8_124_J29 18 37 rfl rfl (Or.inl wset_s) rfl ?_
      refine r_put (i := 4) fl_J8_124_J29 in_J29 q1328 (ty0 := tyJ29) tyJ29_ok nmJ29 19 40 rfl rfl (wset_n (o3 pa9 rfl) (ne4 pa9 rfl)) rfl (by cases p7 <;> rfl) (by cases p7 <;> rfl) (Nat.le_of_ble_eq_true rfl) ?_
      show Rn G mJ8_rotateRight 40 [(2, .ref pa9), (0, .ref a1), (1, .ref a2)] [] (wset (wset w a2 (.inl (nJ29, [.ref a3, .ref a4, .null, va_rf p6, va_rf p7, .int x8]))) pa9 (.inl (nJ29, [.ref a10, .ref a11, va_rf p12, .null, va_rf p7, .int x15]))) _
      refine r_aload_n 20 41 2 rfl rfl rfl ?_
      refine r_get (v := va_rf p7) fl_J8_124_J29 21 44 rfl rfl (Or.inl (wset_n wset_s (ne5 pa9 rfl rfl))) rfl ?_
      cases p7 with
      | none =>
        refine r_ifnonnullN 22 47 rfl rfl ?_
        refine r_aload_n 23 48 1 rfl rfl rfl ?_
        refine r_aload_n 24 49 0 rfl rfl rfl ?_
        refine r_put (i := 3) fl_J8_101_J8 in_J8 q176 (ty0 := tyJ8) tyJ8_ok nmJ8 25 52 rfl rfl (wset_n (wset_n o6 (Lk.ne (Or.inl o6) o1 hwk (by intro h; simp at h))) (Lk.ne (Or.inl o6) (o3 pa9 rfl) hwk (by intro h; simp at h))) rfl rfl rfl (Nat.le_of_ble_eq_true rfl) ?_
        show Rn G mJ8_rotateRight 52 [(2, .ref pa9), (0, .ref a1), (1, .ref a2)] [] (wset (wset (wset w a2 (.inl (nJ29, [.ref a3, .ref a4, .null, va_rf p6, .null, .int x8]))) pa9 (.inl (nJ29, [.ref a10, .ref a11, va_rf p12, .null, .null, .int x15]))) a1 (.inl (nJ8, [va_rf p18, va_rf p19, .null, .ref pa9, .int (nI m21), .int x22, va_rf p23, va_rf p24, va_rf p25]))) _
        refine r_goto 26 85 rfl rfl ?_
        refine r_aload_n 41 86 0 rfl rfl rfl ?_
        refine r_aload_n 42 87 2 rfl rfl rfl ?_
        refine r_put (i := 3) fl_J8_114_J29 in_J29 q1328 (ty0 := tyJ29) tyJ29_ok nmJ29 43 90 rfl rfl (wset_n wset_s (Lk.ne (Or.inl (o3 pa9 rfl)) o6 hwk (by intro h; simp at h))) rfl rfl rfl (Nat.le_of_ble_eq_true rfl) ?_
        show Rn G mJ8_rotateRight 90 [(2, .ref pa9), (0, .ref a1), (1, .ref a2)] [] (wset (wset (wset (wset w a2 (.inl (nJ29, [.ref a3, .ref a4, .null, va_rf p6, .null, .int x8]))) pa9 (.inl (nJ29, [.ref a10, .ref a11, va_rf p12, .null, .null, .int x15]))) a1 (.inl (nJ8, [va_rf p18, va_rf p19, .null, .ref pa9, .int (nI m21), .int x22, va_rf p23, va_rf p24, va_rf p25]))) pa9 (.inl (nJ29, [.ref a10, .ref a11, va_rf p12, .ref a2, .null, .int x15]))) _
        refine r_aload_n 44 91 2 rfl rfl rfl ?_
        refine r_aload_n 45 92 0 rfl rfl rfl ?_
        refine r_put (i := 4) fl_J8_124_J29 in_J29 q1328 (ty0 := tyJ29) tyJ29_ok nmJ29 46 95 rfl rfl (wset_n (wset_n (wset_n wset_s (ne5 pa9 rfl rfl)) (Lk.ne (Or.inl o1) o6 hwk (by intro h; simp at h))) (ne5 pa9 rfl rfl)) rfl rfl rfl (Nat.le_of_ble_eq_true rfl) ?_
        show Rn G mJ8_rotateRight 95 [(2, .ref pa9), (0, .ref a1), (1, .ref a2)] [] (wset (wset (wset (wset (wset w a2 (.inl (nJ29, [.ref a3, .ref a4, .null, va_rf p6, .null, .int x8]))) pa9 (.inl (nJ29, [.ref a10, .ref a11, va_rf p12, .null, .null, .int x15]))) a1 (.inl (nJ8, [va_rf p18, va_rf p19, .null, .ref pa9, .int (nI m21), .int x22, va_rf p23, va_rf p24, va_rf p25]))) pa9 (.inl (nJ29, [.ref a10, .ref a11, va_rf p12, .ref a2, .null, .int x15]))) a2 (.inl (nJ29, [.ref a3, .ref a4, .null, va_rf p6, .ref pa9, .int x8]))) _
        exact r_vret 47 rfl rfl (k7 pa9 rfl rfl rfl)
      | some pa17 =>
        refine r_ifnonnull 22 55 rfl rfl ?_
        refine r_aload_n 27 56 2 rfl rfl rfl ?_
        refine r_get (v := .ref pa17) fl_J8_124_J29 28 59 rfl rfl (Or.inl (wset_n wset_s (ne5 pa9 rfl rfl))) rfl ?_
        refine r_get (v := va_rf p29) fl_J8_114_J29 29 62 rfl rfl (Or.inl (wset_n (wset_n (o8 pa9 rfl rfl pa17 rfl) (ne9 pa9 rfl rfl pa17 rfl)) (ne10 pa9 rfl rfl pa17 rfl))) rfl ?_
        refine r_aload_n 30 63 2 rfl rfl rfl ?_
        cases p29 with
        | none =>
          refine r_acmp_ne (rx := none) (ry := (some a2)) 31 66 77 rfl rfl rfl rfl rfl (fun _ => ?_) (fun h => by cases h)
          refine r_aload_n 37 78 2 rfl rfl rfl ?_
          refine r_get (v := .ref pa17) fl_J8_124_J29 38 81 rfl rfl (Or.inl (wset_n wset_s (ne5 pa9 rfl rfl))) rfl ?_
          refine r_aload_n 39 82 0 rfl rfl rfl ?_
          refine r_put (i := 2) fl_J8_111_J29 in_J29 q1328 (ty0 := tyJ29) tyJ29_ok nmJ29 40 85 rfl rfl (wset_n (wset_n (o8 pa9 rfl rfl pa17 rfl) (ne9 pa9 rfl rfl pa17 rfl)) (ne10 pa9 rfl rfl pa17 rfl)) rfl rfl rfl (Nat.le_of_ble_eq_true rfl) ?_
          show Rn G mJ8_rotateRight 85 [(2, .ref pa9), (0, .ref a1), (1, .ref a2)] [] (wset (wset (wset w a2 (.inl (nJ29, [.ref a3, .ref a4, .null, va_rf p6, .ref pa17, .int x8]))) pa9 (.inl (nJ29, [.ref a10, .ref a11, va_rf p12, .null, .ref pa17, .int x15]))) pa17 (.inl (nJ29, [.ref a26, .ref a27, .ref pa9, .null, va_rf p30, .int x31]))) _
          refine r_aload_n 41 86 0 rfl rfl rfl ?_
          refine r_aload_n 42 87 2 rfl rfl rfl ?_
          refine r_put (i := 3) fl_J8_114_J29 in_J29 q1328 (ty0 := tyJ29) tyJ29_ok nmJ29 43 90 rfl rfl (wset_n wset_s (ne11 pa9 rfl rfl pa17 rfl rfl)) rfl rfl rfl (Nat.le_of_ble_eq_true rfl) ?_
          show Rn G mJ8_rotateRight 90 [(2, .ref pa9), (0, .ref a1), (1, .ref a2)] [] (wset (wset (wset (wset w a2 (.inl (nJ29, [.ref a3, .ref a4, .null, va_rf p6, .ref pa17, .int x8]))) pa9 (.inl (nJ29, [.ref a10, .ref a11, va_rf p12, .null, .ref pa17, .int x15]))) pa17 (.inl (nJ29, [.ref a26, .ref a27, .ref pa9, .null, va_rf p30, .int x31]))) pa9 (.inl (nJ29, [.ref a10, .ref a11, va_rf p12, .ref a2, .ref pa17, .int x15]))) _
          refine r_aload_n 44 91 2 rfl rfl rfl ?_
          refine r_aload_n 45 92 0 rfl rfl rfl ?_
          refine r_put (i := 4) fl_J8_124_J29 in_J29 q1328 (ty0 := tyJ29) tyJ29_ok nmJ29 46 95 rfl rfl (wset_n (wset_n (wset_n wset_s (ne5 pa9 rfl rfl)) (ne12 pa9 rfl rfl pa17 rfl rfl)) (ne5 pa9 rfl rfl)) rfl rfl rfl (Nat.le_of_ble_eq_true rfl) ?_
          show Rn G mJ8_rotateRight 95 [(2, .ref pa9), (0, .ref a1), (1, .ref a2)] [] (wset (wset (wset (wset (wset w a2 (.inl (nJ29, [.ref a3, .ref a4, .null, va_rf p6, .ref pa17, .int x8]))) pa9 (.inl (nJ29, [.ref a10, .ref a11, va_rf p12, .null, .ref pa17, .int x15]))) pa17 (.inl (nJ29, [.ref a26, .ref a27, .ref pa9, .null, va_rf p30, .int x31]))) pa9 (.inl (nJ29, [.ref a10, .ref a11, va_rf p12, .ref a2, .ref pa17, .int x15]))) a2 (.inl (nJ29, [.ref a3, .ref a4, .null, va_rf p6, .ref pa9, .int x8]))) _
          exact r_vret 47 rfl rfl (k13 pa9 rfl rfl pa17 rfl rfl)
        | some pa32 =>
          refine r_acmp_ne (rx := (some pa32)) (ry := (some a2)) 31 66 77 rfl rfl rfl rfl rfl (fun c5 => ?_) (fun c5 => ?_)
          · refine r_aload_n 37 78 2 rfl rfl rfl ?_
            refine r_get (v := .ref pa17) fl_J8_124_J29 38 81 rfl rfl (Or.inl (wset_n wset_s (ne5 pa9 rfl rfl))) rfl ?_
            refine r_aload_n 39 82 0 rfl rfl rfl ?_
            refine r_put (i := 2) fl_J8_111_J29 in_J29 q1328 (ty0 := tyJ29) tyJ29_ok nmJ29 40 85 rfl rfl (wset_n (wset_n (o8 pa9 rfl rfl pa17 rfl) (ne9 pa9 rfl rfl pa17 rfl)) (ne10 pa9 rfl rfl pa17 rfl)) rfl rfl rfl (Nat.le_of_ble_eq_true rfl) ?_
            show Rn G mJ8_rotateRight 85 [(2, .ref pa9), (0, .ref a1), (1, .ref a2)] [] (wset (wset (wset w a2 (.inl (nJ29, [.ref a3, .ref a4, .null, va_rf p6, .ref pa17, .int x8]))) pa9 (.inl (nJ29, [.ref a10, .ref a11, va_rf p12, .null, .ref pa17, .int x15]))) pa17 (.inl (nJ29, [.ref a26, .ref a27, .ref pa9, .ref pa32, va_rf p30, .int x31]))) _
            refine r_aload_n 41 86 0 rfl rfl rfl ?_
            refine r_aload_n 42 87 2 rfl rfl rfl ?_
            refine r_put (i := 3) fl_J8_114_J29 in_J29 q1328 (ty0 := tyJ29) tyJ29_ok nmJ29 43 90 rfl rfl (wset_n wset_s (ne14 pa9 rfl rfl pa17 rfl pa32 rfl (fun h => c5 (congrArg some h)))) rfl rfl rfl (Nat.le_of_ble_eq_true rfl) ?_
            show Rn G mJ8_rotateRight 90 [(2, .ref pa9), (0, .ref a1), (1, .ref a2)] [] (wset (wset (wset (wset w a2 (.inl (nJ29, [.ref a3, .ref a4, .null, va_rf p6, .ref pa17, .int x8]))) pa9 (.inl (nJ29, [.ref a10, .ref a11, va_rf p12, .null, .ref pa17, .int x15]))) pa17 (.inl (nJ29, [.ref a26, .ref a27, .ref pa9, .ref pa32, va_rf p30, .int x31]))) pa9 (.inl (nJ29, [.ref a10, .ref a11, va_rf p12, .ref a2, .ref pa17, .int x15]))) _
            refine r_aload_n 44 91 2 rfl rfl rfl ?_
            refine r_aload_n 45 92 0 rfl rfl rfl ?_
            refine r_put (i := 4) fl_J8_124_J29 in_J29 q1328 (ty0 := tyJ29) tyJ29_ok nmJ29 46 95 rfl rfl (wset_n (wset_n (wset_n wset_s (ne5 pa9 rfl rfl)) (ne15 pa9 rfl rfl pa17 rfl pa32 rfl (fun h => c5 (congrArg some h)))) (ne5 pa9 rfl rfl)) rfl rfl rfl (Nat.le_of_ble_eq_true rfl) ?_
            show Rn G mJ8_rotateRight 95 [(2, .ref pa9), (0, .ref a1), (1, .ref a2)] [] (wset (wset (wset (wset (wset w a2 (.inl (nJ29, [.ref a3, .ref a4, .null, va_rf p6, .ref pa17, .int x8]))) pa9 (.inl (nJ29, [.ref a10, .ref a11, va_rf p12, .null, .ref pa17, .int x15]))) pa17 (.inl (nJ29, [.ref a26, .ref a27, .ref pa9, .ref pa32, va_rf p30, .int x31]))) pa9 (.inl (nJ29, [.ref a10, .ref a11, va_rf p12, .ref a2, .ref pa17, .int x15]))) a2 (.inl (nJ29, [.ref a3, .ref a4, .null, va_rf p6, .ref pa9, .int x8]))) _
            exact r_vret 47 rfl rfl (k16 pa9 rfl rfl pa17 rfl pa32 rfl (fun h => c5 (congrArg some h)))
          · refine r_aload_n 32 67 2 rfl rfl rfl ?_
            refine r_get (v := .ref pa17) fl_J8_124_J29 33 70 rfl rfl (Or.inl (wset_n wset_s (ne5 pa9 rfl rfl))) rfl ?_
            refine r_aload_n 34 71 0 rfl rfl rfl ?_
            refine r_put (i := 3) fl_J8_114_J29 in_J29 q1328 (ty0 := tyJ29) tyJ29_ok nmJ29 35 74 rfl rfl (wset_n (wset_n (o8 pa9 rfl rfl pa17 rfl) (ne9 pa9 rfl rfl pa17 rfl)) (ne10 pa9 rfl rfl pa17 rfl)) rfl rfl rfl (Nat.le_of_ble_eq_true rfl) ?_
            show Rn G mJ8_rotateRight 74 [(2, .ref pa9), (0, .ref a1), (1, .ref a2)] [] (wset (wset (wset w a2 (.inl (nJ29, [.ref a3, .ref a4, .null, va_rf p6, .ref pa17, .int x8]))) pa9 (.inl (nJ29, [.ref a10, .ref a11, va_rf p12, .null, .ref pa17, .int x15]))) pa17 (.inl (nJ29, [.ref a26, .ref a27, va_rf p28, .ref pa9, va_rf p30, .int x31]))) _
            refine r_goto 36 85 rfl rfl ?_
            refine r_aload_n 41 86 0 rfl rfl rfl ?_
            refine r_aload_n 42 87 2 rfl rfl rfl ?_
            refine r_put (i := 3) fl_J8_114_J29 in_J29 q1328 (ty0 := tyJ29) tyJ29_ok nmJ29 43 90 rfl rfl (wset_n wset_s (ne17 pa9 rfl rfl pa17 rfl pa32 rfl (Option.some.inj c5))) rfl rfl rfl (Nat.le_of_ble_eq_true rfl) ?_
            show Rn G mJ8_rotateRight 90 [(2, .ref pa9), (0, .ref a1), (1, .ref a2)] [] (wset (wset (wset (wset w a2 (.inl (nJ29, [.ref a3, .ref a4, .null, va_rf p6, .ref pa17, .int x8]))) pa9 (.inl (nJ29, [.ref a10, .ref a11, va_rf p12, .null, .ref pa17, .int x15]))) pa17 (.inl (nJ29, [.ref a26, .ref a27, va_rf p28, .ref pa9, va_rf p30, .int x31]))) pa9 (.inl (nJ29, [.ref a10, .ref a11, va_rf p12, .ref a2, .ref pa17, .int x15]))) _
            refine r_aload_n 44 91 2 rfl rfl rfl ?_
            refine r_aload_n 45 92 0 rfl rfl rfl ?_
            refine r_put (i := 4) fl_J8_124_J29 in_J29 q1328 (ty0 := tyJ29) tyJ29_ok nmJ29 46 95 rfl rfl (wset_n (wset_n (wset_n wset_s (ne5 pa9 rfl rfl)) (ne18 pa9 rfl rfl pa17 rfl pa32 rfl (Option.some.inj c5))) (ne5 pa9 rfl rfl)) rfl rfl rfl (Nat.le_of_ble_eq_true rfl) ?_
            show Rn G mJ8_rotateRight 95 [(2, .ref pa9), (0, .ref a1), (1, .ref a2)] [] (wset (wset (wset (wset (wset w a2 (.inl (nJ29, [.ref a3, .ref a4, .null, va_rf p6, .ref pa17, .int x8]))) pa9 (.inl (nJ29, [.ref a10, .ref a11, va_rf p12, .null, .ref pa17, .int x15]))) pa17 (.inl (nJ29, [.ref a26, .ref a27, va_rf p28, .ref pa9, va_rf p30, .int x31]))) pa9 (.inl (nJ29, [.ref a10, .ref a11, va_rf p12, .ref a2, .ref pa17, .int x15]))) a2 (.inl (nJ29, [.ref a3, .ref a4, .null, va_rf p6, .ref pa9, .int x8]))) _
            exact r_vret 47 rfl rfl (k19 pa9 rfl rfl pa17 rfl pa32 rfl (Option.some.inj c5))
    | some pa16 =>
      refine r_ifnull 11 24 rfl rfl ?_
      refine r_aload_n 12 25 0 rfl rfl rfl ?_
      refine r_get (v := .ref pa16) fl_J8_114_J29 13 28 rfl rfl (Or.inl (wset_n (o3 pa9 rfl) (ne4 pa9 rfl))) rfl ?_
      refine r_aload_n 14 29 2 rfl rfl rfl ?_
      refine r_put (i := 4) fl_J8_124_J29 in_J29 q1328 (ty0 := tyJ29) tyJ29_ok nmJ29 15 32 rfl rfl (wset_n (o20 pa9 rfl pa16 rfl) (ne21 pa9 rfl pa16 rfl)) rfl rfl rfl (Nat.le_of_ble_eq_true rfl) ?_
      show Rn G mJ8_rotateRight 32 [(2, .ref pa9), (0, .ref a1), (1, .ref a2)] [] (wset (wset w a2 (.inl (nJ29, [.ref a3, .ref a4, .ref pa16, va_rf p6, va_rf p7, .int x8]))) pa16 (.inl (nJ29, [.ref a33, .ref a34, va_rf p35, va_rf p36, .ref a2, .int x38]))) _
      refine r_aload_n 16 33 0 rfl rfl rfl ?_
      refine r_aload_n 17 34 2 rfl rfl rfl ?_
      refine r_get (v := va_rf p7) fl_J8_124_J29 18 37 rfl rfl (Or.inl (wset_n wset_s (ne22 pa9 rfl pa16 rfl))) rfl ?_
      refine r_put (i := 4) fl_J8_124_J29 in_J29 q1328 (ty0 := tyJ29) tyJ29_ok nmJ29 19 40 rfl rfl (wset_n (wset_n (o3 pa9 rfl) (ne4 pa9 rfl)) (ne23 pa9 rfl pa16 rfl)) rfl (by cases p7 <;> rfl) (by cases p7 <;> rfl) (Nat.le_of_ble_eq_true rfl) ?_
      show Rn G mJ8_rotateRight 40 [(2, .ref pa9), (0, .ref a1), (1, .ref a2)] [] (wset (wset (wset w a2 (.inl (nJ29, [.ref a3, .ref a4, .ref pa16, va_rf p6, va_rf p7, .int x8]))) pa16 (.inl (nJ29, [.ref a33, .ref a34, va_rf p35, va_rf p36, .ref a2, .int x38]))) pa9 (.inl (nJ29, [.ref a10, .ref a11, va_rf p12, .ref pa16, va_rf p7, .int x15]))) _
      refine r_aload_n 20 41 2 rfl rfl rfl ?_
      refine r_get (v := va_rf p7) fl_J8_124_J29 21 44 rfl rfl (Or.inl (wset_n (wset_n wset_s (ne22 pa9 rfl pa16 rfl)) (ne24 pa9 rfl pa16 rfl))) rfl ?_
      cases p7 with
      | none =>
        refine r_ifnonnullN 22 47 rfl rfl ?_
        refine r_aload_n 23 48 1 rfl rfl rfl ?_
        refine r_aload_n 24 49 0 rfl rfl rfl ?_
        refine r_put (i := 3) fl_J8_101_J8 in_J8 q176 (ty0 := tyJ8) tyJ8_ok nmJ8 25 52 rfl rfl (wset_n (wset_n (wset_n o6 (Lk.ne (Or.inl o6) o1 hwk (by intro h; simp at h))) (Lk.ne (Or.inl o6) (o20 pa9 rfl pa16 rfl) hwk (by intro h; simp at h))) (Lk.ne (Or.inl o6) (o3 pa9 rfl) hwk (by intro h; simp at h))) rfl rfl rfl (Nat.le_of_ble_eq_true rfl) ?_
        show Rn G mJ8_rotateRight 52 [(2, .ref pa9), (0, .ref a1), (1, .ref a2)] [] (wset (wset (wset (wset w a2 (.inl (nJ29, [.ref a3, .ref a4, .ref pa16, va_rf p6, .null, .int x8]))) pa16 (.inl (nJ29, [.ref a33, .ref a34, va_rf p35, va_rf p36, .ref a2, .int x38]))) pa9 (.inl (nJ29, [.ref a10, .ref a11, va_rf p12, .ref pa16, .null, .int x15]))) a1 (.inl (nJ8, [va_rf p18, va_rf p19, .null, .ref pa9, .int (nI m21), .int x22, va_rf p23, va_rf p24, va_rf p25]))) _
        refine r_goto 26 85 rfl rfl ?_
        refine r_aload_n 41 86 0 rfl rfl rfl ?_
        refine r_aload_n 42 87 2 rfl rfl rfl ?_
        refine r_put (i := 3) fl_J8_114_J29 in_J29 q1328 (ty0 := tyJ29) tyJ29_ok nmJ29 43 90 rfl rfl (wset_n wset_s (Lk.ne (Or.inl (o3 pa9 rfl)) o6 hwk (by intro h; simp at h))) rfl rfl rfl (Nat.le_of_ble_eq_true rfl) ?_
        show Rn G mJ8_rotateRight 90 [(2, .ref pa9), (0, .ref a1), (1, .ref a2)] [] (wset (wset (wset (wset (wset w a2 (.inl (nJ29, [.ref a3, .ref a4, .ref pa16, va_rf p6, .null, .int x8]))) pa16 (.inl (nJ29, [.ref a33, .ref a34, va_rf p35, va_rf p36, .ref a2, .int x38]))) pa9 (.inl (nJ29, [.ref a10, .ref a11, va_rf p12, .ref pa16, .null, .int x15]))) a1 (.inl (nJ8, [va_rf p18, va_rf p19, .null, .ref pa9, .int (nI m21), .int x22, va_rf p23, va_rf p24, va_rf p25]))) pa9 (.inl (nJ29, [.ref a10, .ref a11, va_rf p12, .ref a2, .null, .int x15]))) _
        refine r_aload_n 44 91 2 rfl rfl rfl ?_
        refine r_aload_n 45 92 0 rfl rfl rfl ?_
        refine r_put (i := 4) fl_J8_124_J29 in_J29 q1328 (ty0 := tyJ29) tyJ29_ok nmJ29 46 95 rfl rfl (wset_n (wset_n (wset_n (wset_n wset_s (ne22 pa9 rfl pa16 rfl)) (ne24 pa9 rfl pa16 rfl)) (Lk.ne (Or.inl o1) o6 hwk (by intro h; simp at h))) (ne24 pa9 rfl pa16 rfl)) rfl rfl rfl (Nat.le_of_ble_eq_true rfl) ?_
        show Rn G mJ8_rotateRight 95 [(2, .ref pa9), (0, .ref a1), (1, .ref a2)] [] (wset (wset (wset (wset (wset (wset w a2 (.inl (nJ29, [.ref a3, .ref a4, .ref pa16, va_rf p6, .null, .int x8]))) pa16 (.inl (nJ29, [.ref a33, .ref a34, va_rf p35, va_rf p36, .ref a2, .int x38]))) pa9 (.inl (nJ29, [.ref a10, .ref a11, va_rf p12, .ref pa16, .null, .int x15]))) a1 (.inl (nJ8, [va_rf p18, va_rf p19, .null, .ref pa9, .int (nI m21), .int x22, va_rf p23, va_rf p24, va_rf p25]))) pa9 (.inl (nJ29, [.ref a10, .ref a11, va_rf p12, .ref a2, .null, .int x15]))) a2 (.inl (nJ29, [.ref a3, .ref a4, .ref pa16, va_rf p6, .ref pa9, .int x8]))) _
        exact r_vret 47 rfl rfl (k25 pa9 rfl pa16 rfl rfl)
      | some pa39 =>
        refine r_ifnonnull 22 55 rfl rfl ?_
        refine r_aload_n 27 56 2 rfl rfl rfl ?_
        refine r_get (v := .ref pa39) fl_J8_124_J29 28 59 rfl rfl (Or.inl (wset_n (wset_n wset_s (ne22 pa9 rfl pa16 rfl)) (ne24 pa9 rfl pa16 rfl))) rfl ?_
        refine r_get (v := va_rf p43) fl_J8_114_J29 29 62 rfl rfl (Or.inl (wset_n (wset_n (wset_n (o26 pa9 rfl pa16 rfl pa39 rfl) (ne27 pa9 rfl pa16 rfl pa39 rfl)) (ne28 pa9 rfl pa16 rfl pa39 rfl)) (ne29 pa9 rfl pa16 rfl pa39 rfl))) rfl ?_
        refine r_aload_n 30 63 2 rfl rfl rfl ?_
        cases p43 with
        | none =>
          refine r_acmp_ne (rx := none) (ry := (some a2)) 31 66 77 rfl rfl rfl rfl rfl (fun _ => ?_) (fun h => by cases h)
          refine r_aload_n 37 78 2 rfl rfl rfl ?_
          refine r_get (v := .ref pa39) fl_J8_124_J29 38 81 rfl rfl (Or.inl (wset_n (wset_n wset_s (ne22 pa9 rfl pa16 rfl)) (ne24 pa9 rfl pa16 rfl))) rfl ?_
          refine r_aload_n 39 82 0 rfl rfl rfl ?_
          refine r_put (i := 2) fl_J8_111_J29 in_J29 q1328 (ty0 := tyJ29) tyJ29_ok nmJ29 40 85 rfl rfl (wset_n (wset_n (wset_n (o26 pa9 rfl pa16 rfl pa39 rfl) (ne27 pa9 rfl pa16 rfl pa39 rfl)) (ne28 pa9 rfl pa16 rfl pa39 rfl)) (ne29 pa9 rfl pa16 rfl pa39 rfl)) rfl rfl rfl (Nat.le_of_ble_eq_true rfl) ?_
          show Rn G mJ8_rotateRight 85 [(2, .ref pa9), (0, .ref a1), (1, .ref a2)] [] (wset (wset (wset (wset w a2 (.inl (nJ29, [.ref a3, .ref a4, .ref pa16, va_rf p6, .ref pa39, .int x8]))) pa16 (.inl (nJ29, [.ref a33, .ref a34, va_rf p35, va_rf p36, .ref a2, .int x38]))) pa9 (.inl (nJ29, [.ref a10, .ref a11, va_rf p12, .ref pa16, .ref pa39, .int x15]))) pa39 (.inl (nJ29, [.ref a40, .ref a41, .ref pa9, .null, va_rf p44, .int x45]))) _
          refine r_aload_n 41 86 0 rfl rfl rfl ?_
          refine r_aload_n 42 87 2 rfl rfl rfl ?_
          refine r_put (i := 3) fl_J8_114_J29 in_J29 q1328 (ty0 := tyJ29) tyJ29_ok nmJ29 43 90 rfl rfl (wset_n wset_s (ne30 pa9 rfl pa16 rfl pa39 rfl rfl)) rfl rfl rfl (Nat.le_of_ble_eq_true rfl) ?_
          show Rn G mJ8_rotateRight 90 [(2, .ref pa9), (0, .ref a1), (1, .ref a2)] [] (wset (wset (wset (wset (wset w a2 (.inl (nJ29, [.ref a3, .ref a4, .ref pa16, va_rf p6, .ref pa39, .int x8]))) pa16 (.inl (nJ29, [.ref a33, .ref a34, va_rf p35, va_rf p36, .ref a2, .int x38]))) pa9 (.inl (nJ29, [.ref a10, .ref a11, va_rf p12, .ref pa16, .ref pa39, .int x15]))) pa39 (.inl (nJ29, [.ref a40, .ref a41, .ref pa9, .null, va_rf p44, .int x45]))) pa9 (.inl (nJ29, [.ref a10, .ref a11, va_rf p12, .ref a2, .ref pa39, .int x15]))) _
          refine r_aload_n 44 91 2 rfl rfl rfl ?_
          refine r_aload_n 45 92 0 rfl rfl rfl ?_
          refine r_put (i := 4) fl_J8_124_J29 in_J29 q1328 (ty0 := tyJ29) tyJ29_ok nmJ29 46 95 rfl rfl (wset_n (wset_n (wset_n (wset_n wset_s (ne22 pa9 rfl pa16 rfl)) (ne24 pa9 rfl pa16 rfl)) (ne31 pa9 rfl pa16 rfl pa39 rfl rfl)) (ne24 pa9 rfl pa16 rfl)) rfl rfl rfl (Nat.le_of_ble_eq_true rfl) ?_
          show Rn G mJ8_rotateRight 95 [(2, .ref pa9), (0, .ref a1), (1, .ref a2)] [] (wset (wset (wset (wset (wset (wset w a2 (.inl (nJ29, [.ref a3, .ref a4, .ref pa16, va_rf p6, .ref pa39, .int x8]))) pa16 (.inl (nJ29, [.ref a33, .ref a34, va_rf p35, va_rf p36, .ref a2, .int x38]))) pa9 (.inl (nJ29, [.ref a10, .ref a11, va_rf p12, .ref pa16, .ref pa39, .int x15]))) pa39 (.inl (nJ29, [.ref a40, .ref a41, .ref pa9, .null, va_rf p44, .int x45]))) pa9 (.inl (nJ29, [.ref a10, .ref a11, va_rf p12, .ref a2, .ref pa39, .int x15]))) a2 (.inl (nJ29, [.ref a3, .ref a4, .ref pa16, va_rf p6, .ref pa9, .int x8]))) _
          exact r_vret 47 rfl rfl (k32 pa9 rfl pa16 rfl pa39 rfl rfl)
        | some pa46 =>
          refine r_acmp_ne (rx := (some pa46)) (ry := (some a2)) 31 66 77 rfl rfl rfl rfl rfl (fun c5 => ?_) (fun c5 => ?_)
          · refine r_aload_n 37 78 2 rfl rfl rfl ?_
            refine r_get (v := .ref pa39) fl_J8_124_J29 38 81 rfl rfl (Or.inl (wset_n (wset_n wset_s (ne22 pa9 rfl pa16 rfl)) (ne24 pa9 rfl pa16 rfl))) rfl ?_
            refine r_aload_n 39 82 0 rfl rfl rfl ?_
            refine r_put (i := 2) fl_J8_111_J29 in_J29 q1328 (ty0 := tyJ29) tyJ29_ok nmJ29 40 85 rfl rfl (wset_n (wset_n (wset_n (o26 pa9 rfl pa16 rfl pa39 rfl) (ne27 pa9 rfl pa16 rfl pa39 rfl)) (ne28 pa9 rfl pa16 rfl pa39 rfl)) (ne29 pa9 rfl pa16 rfl pa39 rfl)) rfl rfl rfl (Nat.le_of_ble_eq_true rfl) ?_
            show Rn G mJ8_rotateRight 85 [(2, .ref pa9), (0, .ref a1), (1, .ref a2)] [] (wset (wset (wset (wset w a2 (.inl (nJ29, [.ref a3, .ref a4, .ref pa16, va_rf p6, .ref pa39, .int x8]))) pa16 (.inl (nJ29, [.ref a33, .ref a34, va_rf p35, va_rf p36, .ref a2, .int x38]))) pa9 (.inl (nJ29, [.ref a10, .ref a11, va_rf p12, .ref pa16, .ref pa39, .int x15]))) pa39 (.inl (nJ29, [.ref a40, .ref a41, .ref pa9, .ref pa46, va_rf p44, .int x45]))) _
            refine r_aload_n 41 86 0 rfl rfl rfl ?_
            refine r_aload_n 42 87 2 rfl rfl rfl ?_
            refine r_put (i := 3) fl_J8_114_J29 in_J29 q1328 (ty0 := tyJ29) tyJ29_ok nmJ29 43 90 rfl rfl (wset_n wset_s (ne33 pa9 rfl pa16 rfl pa39 rfl pa46 rfl (fun h => c5 (congrArg some h)))) rfl rfl rfl (Nat.le_of_ble_eq_true rfl) ?_
            show Rn G mJ8_rotateRight 90 [(2, .ref pa9), (0, .ref a1), (1, .ref a2)] [] (wset (wset (wset (wset (wset w a2 (.inl (nJ29, [.ref a3, .ref a4, .ref pa16, va_rf p6, .ref pa39, .int x8]))) pa16 (.inl (nJ29, [.ref a33, .ref a34, va_rf p35, va_rf p36, .ref a2, .int x38]))) pa9 (.inl (nJ29, [.ref a10, .ref a11, va_rf p12, .ref pa16, .ref pa39, .int x15]))) pa39 (.inl (nJ29, [.ref a40, .ref a41, .ref pa9, .ref pa46, va_rf p44, .int x45]))) pa9 (.inl (nJ29, [.ref a10, .ref a11, va_rf p12, .ref a2, .ref pa39, .int x15]))) _
            refine r_aload_n 44 91 2 rfl rfl rfl ?_
            refine r_aload_n 45 92 0 rfl rfl rfl ?_
            refine r_put (i := 4) fl_J8_124_J29 in_J29 q1328 (ty0 := tyJ29) tyJ29_ok nmJ29 46 95 rfl rfl (wset_n (wset_n (wset_n (wset_n wset_s (ne22 pa9 rfl pa16 rfl)) (ne24 pa9 rfl pa16 rfl)) (ne34 pa9 rfl pa16 rfl pa39 rfl pa46 rfl (fun h => c5 (congrArg some h)))) (ne24 pa9 rfl pa16 rfl)) rfl rfl rfl (Nat.le_of_ble_eq_true rfl) ?_
            show Rn G mJ8_rotateRight 95 [(2, .ref pa9), (0, .ref a1), (1, .ref a2)] [] (wset (wset (wset (wset (wset (wset w a2 (.inl (nJ29, [.ref a3, .ref a4, .ref pa16, va_rf p6, .ref pa39, .int x8]))) pa16 (.inl (nJ29, [.ref a33, .ref a34, va_rf p35, va_rf p36, .ref a2, .int x38]))) pa9 (.inl (nJ29, [.ref a10, .ref a11, va_rf p12, .ref pa16, .ref pa39, .int x15]))) pa39 (.inl (nJ29, [.ref a40, .ref a41, .ref pa9, .ref pa46, va_rf p44, .int x45]))) pa9 (.inl (nJ29, [.ref a10, .ref a11, va_rf p12, .ref a2, .ref pa39, .int x15]))) a2 (.inl (nJ29, [.ref a3, .ref a4, .ref pa16, va_rf p6, .ref pa9, .int x8]))) _
            exact r_vret 47 rfl rfl (k35 pa9 rfl pa16 rfl pa39 rfl pa46 rfl (fun h => c5 (congrArg some h)))
          · refine r_aload_n 32 67 2 rfl rfl rfl ?_
            refine r_get (v := .ref pa39) fl_J8_124_J29 33 70 rfl rfl (Or.inl (wset_n (wset_n wset_s (ne22 pa9 rfl pa16 rfl)) (ne24 pa9 rfl pa16 rfl))) rfl ?_
            refine r_aload_n 34 71 0 rfl rfl rfl ?_
            refine r_put (i := 3) fl_J8_114_J29 in_J29 q1328 (ty0 := tyJ29) tyJ29_ok nmJ29 35 74 rfl rfl (wset_n (wset_n (wset_n (o26 pa9 rfl pa16 rfl pa39 rfl) (ne27 pa9 rfl pa16 rfl pa39 rfl)) (ne28 pa9 rfl pa16 rfl pa39 rfl)) (ne29 pa9 rfl pa16 rfl pa39 rfl)) rfl rfl rfl (Nat.le_of_ble_eq_true rfl) ?_
            show Rn G mJ8_rotateRight 74 [(2, .ref pa9), (0, .ref a1), (1, .ref a2)] [] (wset (wset (wset (wset w a2 (.inl (nJ29, [.ref a3, .ref a4, .ref pa16, va_rf p6, .ref pa39, .int x8]))) pa16 (.inl (nJ29, [.ref a33, .ref a34, va_rf p35, va_rf p36, .ref a2, .int x38]))) pa9 (.inl (nJ29, [.ref a10, .ref a11, va_rf p12, .ref pa16, .ref pa39, .int x15]))) pa39 (.inl (nJ29, [.ref a40, .ref a41, va_rf p42, .ref pa9, va_rf p44, .int x45]))) _
            refine r_goto 36 85 rfl rfl ?_
            refine r_aload_n 41 86 0 rfl rfl rfl ?_
            refine r_aload_n 42 87 2 rfl rfl rfl ?_
            refine r_put (i := 3) fl_J8_114_J29 in_J29 q1328 (ty0 := tyJ29) tyJ29_ok nmJ29 43 90 rfl rfl (wset_n wset_s (ne36 pa9 rfl pa16 rfl pa39 rfl pa46 rfl (Option.some.inj c5))) rfl rfl rfl (Nat.le_of_ble_eq_true rfl) ?_
            show Rn G mJ8_rotateRight 90 [(2, .ref pa9), (0, .ref a1), (1, .ref a2)] [] (wset (wset (wset (wset (wset w a2 (.inl (nJ29, [.ref a3, .ref a4, .ref pa16, va_rf p6, .ref pa39, .int x8]))) pa16 (.inl (nJ29, [.ref a33, .ref a34, va_rf p35, va_rf p36, .ref a2, .int x38]))) pa9 (.inl (nJ29, [.ref a10, .ref a11, va_rf p12, .ref pa16, .ref pa39, .int x15]))) pa39 (.inl (nJ29, [.ref a40, .ref a41, va_rf p42, .ref pa9, va_rf p44, .int x45]))) pa9 (.inl (nJ29, [.ref a10, .ref a11, va_rf p12, .ref a2, .ref pa39, .int x15]))) _
            refine r_aload_n 44 91 2 rfl rfl rfl ?_
            refine r_aload_n 45 92 0 rfl rfl rfl ?_
            refine r_put (i := 4) fl_J8_124_J29 in_J29 q1328 (ty0 := tyJ29) tyJ29_ok nmJ29 46 95 rfl rfl (wset_n (wset_n (wset_n (wset_n wset_s (ne22 pa9 rfl pa16 rfl)) (ne24 pa9 rfl pa16 rfl)) (ne37 pa9 rfl pa16 rfl pa39 rfl pa46 rfl (Option.some.inj c5))) (ne24 pa9 rfl pa16 rfl)) rfl rfl rfl (Nat.le_of_ble_eq_true rfl) ?_
            show Rn G mJ8_rotateRight 95 [(2, .ref pa9), (0, .ref a1), (1, .ref a2)] [] (wset (wset (wset (wset (wset (wset w a2 (.inl (nJ29, [.ref a3, .ref a4, .ref pa16, va_rf p6, .ref pa39, .int x8]))) pa16 (.inl (nJ29, [.ref a33, .ref a34, va_rf p35, va_rf p36, .ref a2, .int x38]))) pa9 (.inl (nJ29, [.ref a10, .ref a11, va_rf p12, .ref pa16, .ref pa39, .int x15]))) pa39 (.inl (nJ29, [.ref a40, .ref a41, va_rf p42, .ref pa9, va_rf p44, .int x45]))) pa9 (.inl (nJ29, [.ref a10, .ref a11, va_rf p12, .ref a2, .ref pa39, .int x15]))) a2 (.inl (nJ29, [.ref a3, .ref a4, .ref pa16, va_rf p6, .ref pa9, .int x8]))) _
            exact r_vret 47 rfl rfl (k38 pa9 rfl pa16 rfl pa39 rfl pa46 rfl (Option.some.inj c5))
theorem e_J30_init {G : Gm} {κ : Nat → Nat} {φ : Nat → Option Nat} (hS : GS G κ φ) {w : Wd} {Q : Rs → Wd → Prop} {a1 : Nat} (k1 : Q (.inl none) w) : Ev G mJ30_init [.ref a1] w Q := by
  show Rn G mJ30_init 0 [(0, .ref a1)] [] w Q
  refine r_aload_n 0 1 0 rfl rfl rfl ?_
  refine r_callI lkI_J30_1 1 4 rfl rfl (by decide) [] rfl rfl (Nat.le_of_ble_eq_true rfl) (Nat.le_of_ble_eq_true rfl) (e_J4_init hS (k1 := ?_)) (fun _ _ h => h)
  show Rn G mJ30_init 4 [(0, .ref a1)] [] w _
  exact r_vret 2 rfl rfl k1
theorem e_J31_init {G : Gm} {κ : Nat → Nat} {φ : Nat → Option Nat} (hS : GS G κ φ) {w : Wd} {Q : Rs → Wd → Prop} {a1 : Nat} {a2 : Nat} (o1 : w.1 a1 = some (.inl (nJ31, [.null]))) (k2 : Q (.inl none) (wset w a1 (.inl (nJ31, [.ref a2])))) : Ev G mJ31_init [.ref a1, .ref a2] w Q := by
  show Rn G mJ31_init 0 [(0, .ref a1), (1, .ref a2)] [] w Q
  refine r_aload_n 0 1 0 rfl rfl rfl ?_
  refine r_aload_n 1 2 1 rfl rfl rfl ?_
  refine r_putF (i := 0) fl_J31_1_J31 in_J31 q1424 (ty0 := tyJ31) tyJ31_ok nmJ31 2 5 rfl rfl o1 rfl rfl rfl rfl rfl (Nat.le_of_ble_eq_true rfl) ?_
  show Rn G mJ31_init 5 [(0, .ref a1), (1, .ref a2)] [] (wset w a1 (.inl (nJ31, [.ref a2]))) _
  refine r_aload_n 3 6 0 rfl rfl rfl ?_
  refine r_callI lkI_J31_7 4 9 rfl rfl (by decide) [] rfl rfl (Nat.le_of_ble_eq_true rfl) (Nat.le_of_ble_eq_true rfl) (e_J30_init hS (k1 := ?_)) (fun _ _ h => h)
  show Rn G mJ31_init 9 [(0, .ref a1), (1, .ref a2)] [] (wset w a1 (.inl (nJ31, [.ref a2]))) _
  exact r_vret 5 rfl rfl k2
theorem e_J8_entrySet {G : Gm} {κ : Nat → Nat} {φ : Nat → Option Nat} (hS : GS G κ φ) {w : Wd} {Q : Rs → Wd → Prop} {a1 : Nat} {p2 : Option Nat} {p3 : Option Nat} {p4 : Option Nat} {m5 : Nat} {x6 : Int32} {p7 : Option Nat} {p8 : Option Nat} {p9 : Option Nat} (o1 : w.1 a1 = some (.inl (nJ8, [va_rf p2, va_rf p3, .null, va_rf p4, .int (nI m5), .int x6, va_rf p7, va_rf p8, va_rf p9]))) (hg : 13 ≤ w.2.2) (k2 : p7 = none → Q (.inl (some (.ref w.2.1))) (wset (wset (wnew w (.inl (nJ31, [.null])) 1) w.2.1 (.inl (nJ31, [.ref a1]))) a1 (.inl (nJ8, [va_rf p2, va_rf p3, .null, va_rf p4, .int (nI m5), .int x6, .ref w.2.1, va_rf p8, va_rf p9])))) (k3 : ∀ pa10 : Nat, p7 = some pa10 → Q (.inl (some (.ref pa10))) w) : Ev G mJ8_entrySet [.ref a1] w Q := by
  show Rn G mJ8_entrySet 0 [(0, .ref a1)] [] w Q
  refine Rn.wok fun hwk => ?_
  refine r_aload_n 0 1 0 rfl rfl rfl ?_
  refine r_get (v := va_rf p7) fl_J8_188_J8 1 4 rfl rfl (Or.inl o1) rfl ?_
  refine x_astoreP_n (p := p7) (lv' := [(1, va_rf p7), (0, .ref a1)]) 2 5 rfl rfl (Nat.le_of_ble_eq_true rfl) (by cases p7 <;> rfl) ?_
  refine x_aloadP_n (p := p7) 3 6 0 rfl rfl rfl ?_
  cases p7 with
  | none =>
    refine r_ifnullN 4 13 rfl rfl ?_
    refine r_aload_n 7 14 1 rfl rfl rfl ?_
    refine r_new (fs := [.null]) (ty := tyJ31) (T := TJ31) (C := RJ31) (N := 1) (ci := nJ31) (n := 1) 8 17 rfl rfl rfl in_J31 tyJ31_ok q1423 q1424 q102 rfl (by decide) (by show 12 + 1 ≤ w.2.2; omega) ?_
    show Rn G mJ8_entrySet 17 [(1, .null), (0, .ref a1)] [.ref w.2.1, .ref a1] (wnew w (.inl (nJ31, [.null])) 1) _
    refine r_dup 9 18 rfl rfl rfl ?_
    refine r_aload_n 10 19 1 rfl rfl rfl ?_
    refine r_callI lkI_J8_244 11 22 rfl rfl (by decide) [.ref a1] rfl rfl (Nat.le_of_ble_eq_true rfl) (Nat.le_of_ble_eq_true rfl) (e_J31_init hS (o1 := wnew_s) (k2 := ?_)) (fun _ _ h => h)
    show Rn G mJ8_entrySet 22 [(1, .null), (0, .ref a1)] [.ref w.2.1, .ref a1] (wset (wnew w (.inl (nJ31, [.null])) 1) w.2.1 (.inl (nJ31, [.ref a1]))) _
    refine r_dup_x1 12 23 rfl rfl rfl rfl ?_
    refine r_put (i := 6) fl_J8_188_J8 in_J8 q176 (ty0 := tyJ8) tyJ8_ok nmJ8 13 26 rfl rfl (wset_n (wnew_n o1 (by have := (hwk.1 _ _ o1).2; show a1 < w.2.1; omega)) (Nat.ne_of_lt (show a1 < w.2.1 from (by have := (hwk.1 _ _ o1).2; omega)))) rfl rfl rfl (Nat.le_of_ble_eq_true rfl) ?_
    show Rn G mJ8_entrySet 26 [(1, .null), (0, .ref a1)] [.ref w.2.1] (wset (wset (wnew w (.inl (nJ31, [.null])) 1) w.2.1 (.inl (nJ31, [.ref a1]))) a1 (.inl (nJ8, [va_rf p2, va_rf p3, .null, va_rf p4, .int (nI m5), .int x6, .ref w.2.1, va_rf p8, va_rf p9]))) _
    exact r_aret 14 rfl rfl (Or.inl ⟨_, rfl⟩) (Or.inr ⟨_, rfl⟩) (k2 rfl)
  | some pa10 =>
    refine r_ifnull 4 9 rfl rfl ?_
    refine r_aload_n 5 10 0 rfl rfl rfl ?_
    refine r_goto 6 26 rfl rfl ?_
    exact r_aret 14 rfl rfl (Or.inl ⟨_, rfl⟩) (Or.inr ⟨_, rfl⟩) (k3 pa10 rfl)
theorem e_J8_getFirstEntry {G : Gm} {κ : Nat → Nat} {φ : Nat → Option Nat} (hS : GS G κ φ) {w : Wd} {Q : Rs → Wd → Prop} {a1 : Nat} {p2 : Option Nat} {p3 : Option Nat} {p4 : Option Nat} {m5 : Nat} {x6 : Int32} {p7 : Option Nat} {p8 : Option Nat} {p9 : Option Nat} (o1 : Lk G w a1 (.inl (nJ8, [va_rf p2, va_rf p3, .null, va_rf p4, .int (nI m5), .int x6, va_rf p7, va_rf p8, va_rf p9]))) (k2 : p4 = none → Q (.inl (some (.null))) w) (k3 : ∀ pa10 : Nat, p4 = some pa10 → Rn G mJ8_getFirstEntry 9 [(1, .ref pa10)] [] w Q) : Ev G mJ8_getFirstEntry [.ref a1] w Q := by
  show Rn G mJ8_getFirstEntry 0 [(0, .ref a1)] [] w Q
  refine r_aload_n 0 1 0 rfl rfl rfl ?_
  refine r_get (v := va_rf p4) fl_J8_101_J8 1 4 rfl rfl o1 rfl ?_
  refine x_astoreP_n (p := p4) (lv' := [(1, va_rf p4), (0, .ref a1)]) 2 5 rfl rfl (Nat.le_of_ble_eq_true rfl) (by cases p4 <;> rfl) ?_
  refine x_aloadP_n (p := p4) 3 6 0 rfl rfl rfl ?_
  cases p4 with
  | none =>
    refine r_ifnullN 4 24 rfl rfl ?_
    refine r_aloadN_n 12 25 0 rfl rfl rfl ?_
    exact r_aret 13 rfl rfl (Or.inl ⟨_, rfl⟩) (Or.inl rfl) (k2 rfl)
  | some pa10 =>
    refine r_ifnull 4 9 rfl rfl ?_
    exact r_sub [0] rfl (k3 pa10 rfl)
theorem e_J8_getFirstEntry_9 {G : Gm} {κ : Nat → Nat} {φ : Nat → Option Nat} (hS : GS G κ φ) {w : Wd} {Q : Rs → Wd → Prop} {a1 : Nat} {a2 : Nat} {a3 : Nat} {p4 : Option Nat} {p5 : Option Nat} {p6 : Option Nat} {x7 : Int32} (o1 : Lk G w a1 (.inl (nJ29, [.ref a2, .ref a3, va_rf p4, va_rf p5, va_rf p6, .int x7]))) (k2 : p4 = none → Q (.inl (some (.ref a1))) w) (k3 : ∀ pa8 : Nat, p4 = some pa8 → Rn G mJ8_getFirstEntry 9 [(1, .ref pa8)] [] w Q) : Rn G mJ8_getFirstEntry 9 [(1, .ref a1)] [] w Q := by
  refine r_aload_n 5 10 0 rfl rfl rfl ?_
  refine r_get (v := va_rf p4) fl_J8_111_J29 6 13 rfl rfl o1 rfl ?_
  cases p4 with
  | none =>
    refine r_ifnullN 7 24 rfl rfl ?_
    refine r_aload_n 12 25 0 rfl rfl rfl ?_
    exact r_aret 13 rfl rfl (Or.inl ⟨_, rfl⟩) (Or.inr ⟨_, rfl⟩) (k2 rfl)
  | some pa8 =>
    refine r_ifnull 7 16 rfl rfl ?_
    refine r_aload_n 8 17 0 rfl rfl rfl ?_
    refine r_get (v := .ref pa8) fl_J8_111_J29 9 20 rfl rfl o1 rfl ?_
    refine r_astore_n (lv' := [(1, .ref pa8)]) 10 21 rfl rfl (Nat.le_of_ble_eq_true rfl) rfl ?_
    refine r_goto 11 9 rfl rfl ?_
    exact (k3 pa8 rfl)
theorem e_J32_init {G : Gm} {κ : Nat → Nat} {φ : Nat → Option Nat} (hS : GS G κ φ) {w : Wd} {Q : Rs → Wd → Prop} {a1 : Nat} {a2 : Nat} {p3 : Option Nat} {p4 : Option Nat} {p5 : Option Nat} {p6 : Option Nat} {m7 : Nat} {x8 : Int32} {p9 : Option Nat} {p10 : Option Nat} {p11 : Option Nat} (o1 : w.1 a1 = some (.inl (nJ33, [.null, .null, .int 0, .null]))) (o2 : Lk G w a2 (.inl (nJ8, [va_rf p4, va_rf p5, .null, va_rf p6, .int (nI m7), .int x8, va_rf p9, va_rf p10, va_rf p11]))) (k3 : Q (.inl none) (wset w a1 (.inl (nJ33, [va_rf p3, .null, .int x8, .ref a2])))) : Ev G mJ32_init [.ref a1, .ref a2, va_rf p3] w Q := by
  show Rn G mJ32_init 0 [(0, .ref a1), (1, .ref a2), (2, va_rf p3)] [] w Q
  refine Rn.wok fun hwk => ?_
  refine r_aload_n 0 1 0 rfl rfl rfl ?_
  refine r_aload_n 1 2 1 rfl rfl rfl ?_
  refine r_putF (i := 3) fl_J32_1_J33 in_J33 q1447 (ty0 := tyJ33) tyJ33_ok nmJ33 2 5 rfl rfl o1 rfl rfl rfl rfl rfl (Nat.le_of_ble_eq_true rfl) ?_
  show Rn G mJ32_init 5 [(0, .ref a1), (1, .ref a2), (2, va_rf p3)] [] (wset w a1 (.inl (nJ33, [.null, .null, .int 0, .ref a2]))) _
  refine r_aload_n 3 6 0 rfl rfl rfl ?_
  refine r_objInit q1458 q111 q112 4 9 rfl rfl (by decide) (Nat.le_of_ble_eq_true rfl) ?_
  refine r_aload_n 5 10 0 rfl rfl rfl ?_
  refine r_aload_n 6 11 1 rfl rfl rfl ?_
  refine r_getN (i := 5) (host := "java/util/TreeMap") (T := TJ8) (C := RJ8) (NN := 9) rfl (by decide) q188 7 14 rfl rfl (Lk.set_n o2 (Lk.ne o2 o1 hwk (by intro h; simp at h))) rfl ?_
  refine r_put (i := 2) fl_J32_19_J33 in_J33 q1447 (ty0 := tyJ33) tyJ33_ok nmJ33 8 17 rfl rfl wset_s rfl rfl rfl (Nat.le_of_ble_eq_true rfl) ?_
  rw [wset_wset]
  show Rn G mJ32_init 17 [(0, .ref a1), (1, .ref a2), (2, va_rf p3)] [] (wset w a1 (.inl (nJ33, [.null, .null, .int x8, .ref a2]))) _
  refine r_aload_n 9 18 0 rfl rfl rfl ?_
  refine r_null 10 19 rfl rfl ?_
  refine r_put (i := 1) fl_J32_22_J33 in_J33 q1447 (ty0 := tyJ33) tyJ33_ok nmJ33 11 22 rfl rfl wset_s rfl rfl rfl (Nat.le_of_ble_eq_true rfl) ?_
  rw [wset_wset]
  show Rn G mJ32_init 22 [(0, .ref a1), (1, .ref a2), (2, va_rf p3)] [] (wset w a1 (.inl (nJ33, [.null, .null, .int x8, .ref a2]))) _
  refine r_aload_n 12 23 0 rfl rfl rfl ?_
  refine x_aloadP_n (p := p3) 13 24 2 rfl rfl rfl ?_
  refine r_put (i := 0) fl_J32_26_J33 in_J33 q1447 (ty0 := tyJ33) tyJ33_ok nmJ33 14 27 rfl rfl wset_s rfl (by cases p3 <;> rfl) (by cases p3 <;> rfl) (Nat.le_of_ble_eq_true rfl) ?_
  rw [wset_wset]
  show Rn G mJ32_init 27 [(0, .ref a1), (1, .ref a2), (2, va_rf p3)] [] (wset w a1 (.inl (nJ33, [va_rf p3, .null, .int x8, .ref a2]))) _
  exact r_vret 15 rfl rfl k3
theorem e_J33_init {G : Gm} {κ : Nat → Nat} {φ : Nat → Option Nat} (hS : GS G κ φ) {w : Wd} {Q : Rs → Wd → Prop} {a1 : Nat} {a2 : Nat} {p3 : Option Nat} {p4 : Option Nat} {p5 : Option Nat} {p6 : Option Nat} {m7 : Nat} {x8 : Int32} {p9 : Option Nat} {p10 : Option Nat} {p11 : Option Nat} (o1 : w.1 a1 = some (.inl (nJ33, [.null, .null, .int 0, .null]))) (o2 : Lk G w a2 (.inl (nJ8, [va_rf p4, va_rf p5, .null, va_rf p6, .int (nI m7), .int x8, va_rf p9, va_rf p10, va_rf p11]))) (k3 : Q (.inl none) (wset w a1 (.inl (nJ33, [va_rf p3, .null, .int x8, .ref a2])))) : Ev G mJ33_init [.ref a1, .ref a2, va_rf p3] w Q := by
  show Rn G mJ33_init 0 [(0, .ref a1), (1, .ref a2), (2, va_rf p3)] [] w Q
  refine r_aload_n 0 1 0 rfl rfl rfl ?_
  refine r_aload_n 1 2 1 rfl rfl rfl ?_
  refine x_aloadP_n (p := p3) 2 3 2 rfl rfl rfl ?_
  refine r_callI lkI_J33_1 3 6 rfl rfl (by decide) [.ref a2, va_rf p3] rfl rfl (by cases p3 <;> exact Nat.le_of_ble_eq_true rfl) (by cases p3 <;> exact Nat.le_of_ble_eq_true rfl) (e_J32_init hS (p11 := p11) (p10 := p10) (p9 := p9) (m7 := m7) (p6 := p6) (p5 := p5) (p4 := p4) (p3 := p3) (o1 := o1) (o2 := o2) (k3 := ?_)) (fun _ _ h => h)
  show Rn G mJ33_init 6 [(0, .ref a1), (1, .ref a2), (2, va_rf p3)] [] (wset w a1 (.inl (nJ33, [va_rf p3, .null, .int x8, .ref a2]))) _
  exact r_vret 4 rfl rfl k3
theorem e_J31_iterator {G : Gm} {κ : Nat → Nat} {φ : Nat → Option Nat} (hS : GS G κ φ) {w : Wd} {Q : Rs → Wd → Prop} {a1 : Nat} {a2 : Nat} {p3 : Option Nat} {p4 : Option Nat} {p5 : Option Nat} {m6 : Nat} {x7 : Int32} {p8 : Option Nat} {p9 : Option Nat} {p10 : Option Nat} (hg : 16 ≤ w.2.2) (o1 : Lk G w a1 (.inl (nJ31, [.ref a2]))) (o2 : Lk G w a2 (.inl (nJ8, [va_rf p3, va_rf p4, .null, va_rf p5, .int (nI m6), .int x7, va_rf p8, va_rf p9, va_rf p10]))) {Q3 : Rs → Wd → Prop} (e3 : Ev G mJ8_getFirstEntry [.ref a2] (wnew w (.inl (nJ33, [.null, .null, .int 0, .null])) 4) Q3) (k3 : ∀ r w', Q3 r w' → Af G mJ31_iterator 12 15 [] [.ref a2, .ref w.2.1, .ref w.2.1] r w' Q) : Ev G mJ31_iterator [.ref a1] w Q := by
  show Rn G mJ31_iterator 0 [(0, .ref a1)] [] w Q
  refine Rn.wok fun hwk => ?_
  refine r_new (fs := [.null, .null, .int 0, .null]) (ty := tyJ33) (T := TJ33) (C := RJ33) (N := 4) (ci := nJ33) (n := 4) 0 3 rfl rfl rfl in_J33 tyJ33_ok q1446 q1447 q104 rfl (by decide) (by show 12 + 4 ≤ w.2.2; omega) ?_
  show Rn G mJ31_iterator 3 [(0, .ref a1)] [.ref w.2.1] (wnew w (.inl (nJ33, [.null, .null, .int 0, .null])) 4) _
  refine r_dup 1 4 rfl rfl rfl ?_
  refine r_aload_n 2 5 0 rfl rfl rfl ?_
  refine r_get (v := .ref a2) fl_J31_1_J31 3 8 rfl rfl (Lk.new_n o1 (by have := (o1.lt hwk); show a1 < w.2.1; omega)) rfl ?_
  refine r_aload_n 4 9 0 rfl rfl rfl ?_
  refine r_get (v := .ref a2) fl_J31_1_J31 5 12 rfl rfl (Lk.new_n o1 (by have := (o1.lt hwk); show a1 < w.2.1; omega)) rfl ?_
  exact r_callV lkV_J31_15_J8 (C := RJ8) (TT := TJ8) (NN := 9) rfl (Lk.new_n o2 (by have := (o2.lt hwk); show a2 < w.2.1; omega)) 6 15 rfl rfl (by decide) [] rfl rfl (Nat.le_of_ble_eq_true rfl) (Nat.le_of_ble_eq_true rfl) e3 (fun r w' h => Af.sub [] rfl (k3 r w' h))
theorem e_J31_iterator_15 {G : Gm} {κ : Nat → Nat} {φ : Nat → Option Nat} (hS : GS G κ φ) {w : Wd} {Q : Rs → Wd → Prop} {p1 : Option Nat} {tm : Nat} {it : Nat} {p2 : Option Nat} {p3 : Option Nat} {p4 : Option Nat} {m5 : Nat} {x6 : Int32} {p7 : Option Nat} {p8 : Option Nat} {p9 : Option Nat} (o1 : w.1 it = some (.inl (nJ33, [.null, .null, .int 0, .null]))) (o2 : Lk G w tm (.inl (nJ8, [va_rf p2, va_rf p3, .null, va_rf p4, .int (nI m5), .int x6, va_rf p7, va_rf p8, va_rf p9]))) (k3 : Q (.inl (some (.ref it))) (wset w it (.inl (nJ33, [va_rf p1, .null, .int x6, .ref tm])))) : Rn G mJ31_iterator 15 [] [va_rf p1, .ref tm, .ref it, .ref it] w Q := by
  refine r_callI lkI_J31_21 7 18 rfl rfl (by decide) [.ref tm, va_rf p1] rfl rfl (by cases p1 <;> exact Nat.le_of_ble_eq_true rfl) (by cases p1 <;> exact Nat.le_of_ble_eq_true rfl) (e_J33_init hS (p11 := p9) (p10 := p8) (p9 := p7) (m7 := m5) (p6 := p4) (p5 := p3) (p4 := p2) (p3 := p1) (o1 := o1) (o2 := o2) (k3 := ?_)) (fun _ _ h => h)
  show Rn G mJ31_iterator 18 [] [.ref it] (wset w it (.inl (nJ33, [va_rf p1, .null, .int x6, .ref tm]))) _
  exact r_aret 8 rfl rfl (Or.inl ⟨_, rfl⟩) (Or.inr ⟨_, rfl⟩) k3
theorem e_J32_hasNext {G : Gm} {κ : Nat → Nat} {φ : Nat → Option Nat} (hS : GS G κ φ) {w : Wd} {Q : Rs → Wd → Prop} {a1 : Nat} {p2 : Option Nat} {p3 : Option Nat} {x4 : Int32} {a5 : Nat} (o1 : Lk G w a1 (.inl (nJ33, [va_rf p2, va_rf p3, .int x4, .ref a5]))) (k2 : p2 = none → Q (.inl (some (.int 0))) w) (k3 : ∀ pa6 : Nat, p2 = some pa6 → Q (.inl (some (.int 1))) w) : Ev G mJ32_hasNext [.ref a1] w Q := by
  show Rn G mJ32_hasNext 0 [(0, .ref a1)] [] w Q
  refine r_aload_n 0 1 0 rfl rfl rfl ?_
  refine r_get (v := va_rf p2) fl_J32_26_J33 1 4 rfl rfl o1 rfl ?_
  cases p2 with
  | none =>
    refine r_ifnullN 2 11 rfl rfl ?_
    refine r_iconst 5 12 rfl rfl di_0 ?_
    exact r_iret 6 rfl rfl (by decide) (k2 rfl)
  | some pa6 =>
    refine r_ifnull 2 7 rfl rfl ?_
    refine r_iconst 3 8 rfl rfl di_1 ?_
    refine r_goto 4 12 rfl rfl ?_
    exact r_iret 6 rfl rfl (by decide) (k3 pa6 rfl)
theorem e_J32_nextEntry {G : Gm} {κ : Nat → Nat} {φ : Nat → Option Nat} (hS : GS G κ φ) {w : Wd} {Q : Rs → Wd → Prop} {a1 : Nat} {p2 : Option Nat} {p3 : Option Nat} {x4 : Int32} {a5 : Nat} {p7 : Option Nat} {p8 : Option Nat} {p9 : Option Nat} {m10 : Nat} {x11 : Int32} {p12 : Option Nat} {p13 : Option Nat} {p14 : Option Nat} (o1 : Lk G w a1 (.inl (nJ33, [va_rf p2, va_rf p3, .int x4, .ref a5]))) (f2 : ¬ p2 = none) (o3 : Lk G w a5 (.inl (nJ8, [va_rf p7, va_rf p8, .null, va_rf p9, .int (nI m10), .int x11, va_rf p12, va_rf p13, va_rf p14]))) (f4 : ∀ pa6 : Nat, p2 = some pa6 → x11 = x4) {Q5 : Rs → Wd → Prop} (e5 : ∀ pa6 : Nat, p2 = some pa6 → Ev G mJ8_successor [.ref pa6] w Q5) (k5 : ∀ pa6 : Nat, p2 = some pa6 → ∀ r w', Q5 r w' → Af G mJ32_nextEntry 41 44 [(0, .ref a1), (1, .ref pa6)] [.ref a1] r w' Q) : Ev G mJ32_nextEntry [.ref a1] w Q := by
  show Rn G mJ32_nextEntry 0 [(0, .ref a1)] [] w Q
  refine r_aload_n 0 1 0 rfl rfl rfl ?_
  refine r_get (v := va_rf p2) fl_J32_26_J33 1 4 rfl rfl o1 rfl ?_
  refine x_astoreP_n (p := p2) (lv' := [(1, va_rf p2), (0, .ref a1)]) 2 5 rfl rfl (Nat.le_of_ble_eq_true rfl) (by cases p2 <;> rfl) ?_
  refine x_aloadP_n (p := p2) 3 6 0 rfl rfl rfl ?_
  cases p2 with
  | none =>
    exact absurd rfl f2
  | some pa6 =>
    refine r_ifnonnull 4 17 rfl rfl ?_
    refine r_aload_n 9 18 1 rfl rfl rfl ?_
    refine r_get (v := .ref a5) fl_J32_1_J33 10 21 rfl rfl o1 rfl ?_
    refine r_getN (i := 5) (host := "java/util/TreeMap") (T := TJ8) (C := RJ8) (NN := 9) rfl (by decide) q188 11 24 rfl rfl o3 rfl ?_
    refine r_aload_n 12 25 1 rfl rfl rfl ?_
    refine r_get (v := .int x4) fl_J32_19_J33 13 28 rfl rfl o1 rfl ?_
    refine r_icmp_eq 14 31 39 rfl rfl rfl (fun _ => ?_) (fun c => absurd (f4 pa6 rfl) c)
    refine r_aload_n 19 40 1 rfl rfl rfl ?_
    refine r_aload_n 20 41 0 rfl rfl rfl ?_
    exact r_callS lkS_J32_35 21 44 rfl rfl (by decide) [.ref pa6] rfl rfl (Nat.le_of_ble_eq_true rfl) (Nat.le_of_ble_eq_true rfl) (e5 pa6 rfl) (fun r w' h => Af.sub [1, 0] rfl ((k5 pa6 rfl) r w' h))
theorem e_J32_nextEntry_44 {G : Gm} {κ : Nat → Nat} {φ : Nat → Option Nat} (hS : GS G κ φ) {w : Wd} {Q : Rs → Wd → Prop} {a1 : Nat} {a2 : Nat} {p3 : Option Nat} {it : Nat} {p4 : Option Nat} {p5 : Option Nat} {x6 : Int32} {a7 : Nat} {p8 : Option Nat} {p9 : Option Nat} {x10 : Int32} {a11 : Nat} (o1 : w.1 it = some (.inl (nJ33, [va_rf p4, va_rf p5, .int x6, .ref a7]))) (o2 : w.1 a1 = some (.inl (nJ33, [va_rf p8, va_rf p9, .int x10, .ref a11]))) (ne3 : a1 ≠ it) (k4 : Q (.inl (some (.ref a2))) (wset (wset w it (.inl (nJ33, [va_rf p3, va_rf p5, .int x6, .ref a7]))) a1 (.inl (nJ33, [va_rf p8, .ref a2, .int x10, .ref a11])))) : Rn G mJ32_nextEntry 44 [(0, .ref a1), (1, .ref a2)] [va_rf p3, .ref it] w Q := by
  refine r_put (i := 0) fl_J32_26_J33 in_J33 q1447 (ty0 := tyJ33) tyJ33_ok nmJ33 22 47 rfl rfl o1 rfl (by cases p3 <;> rfl) (by cases p3 <;> rfl) (Nat.le_of_ble_eq_true rfl) ?_
  show Rn G mJ32_nextEntry 47 [(0, .ref a1), (1, .ref a2)] [] (wset w it (.inl (nJ33, [va_rf p3, va_rf p5, .int x6, .ref a7]))) _
  refine r_aload_n 23 48 0 rfl rfl rfl ?_
  refine r_aload_n 24 49 1 rfl rfl rfl ?_
  refine r_put (i := 1) fl_J32_22_J33 in_J33 q1447 (ty0 := tyJ33) tyJ33_ok nmJ33 25 52 rfl rfl (wset_n o2 ne3) rfl rfl rfl (Nat.le_of_ble_eq_true rfl) ?_
  show Rn G mJ32_nextEntry 52 [(0, .ref a1), (1, .ref a2)] [] (wset (wset w it (.inl (nJ33, [va_rf p3, va_rf p5, .int x6, .ref a7]))) a1 (.inl (nJ33, [va_rf p8, .ref a2, .int x10, .ref a11]))) _
  refine r_aload_n 26 53 1 rfl rfl rfl ?_
  exact r_aret 27 rfl rfl (Or.inl ⟨_, rfl⟩) (Or.inr ⟨_, rfl⟩) k4
theorem e_J33_next_2 {G : Gm} {κ : Nat → Nat} {φ : Nat → Option Nat} (hS : GS G κ φ) {w : Wd} {Q : Rs → Wd → Prop} {a1 : Nat} {p2 : Option Nat} {p3 : Option Nat} {x4 : Int32} {a5 : Nat} (o1 : Lk G w a1 (.inl (nJ33, [va_rf p2, va_rf p3, .int x4, .ref a5]))) {Q2 : Rs → Wd → Prop} (e2 : Ev G mJ32_nextEntry [.ref a1] w Q2) (k2 : ∀ r w', Q2 r w' → Af G mJ33_next_2 1 4 [] [] r w' Q) : Ev G mJ33_next_2 [.ref a1] w Q := by
  show Rn G mJ33_next_2 0 [(0, .ref a1)] [] w Q
  refine r_aload_n 0 1 0 rfl rfl rfl ?_
  exact r_callU lkU_J33_7_J33 (C := RJ33) (TT := TJ33) (NN := 4) rfl o1 1 4 rfl rfl (by decide) [] rfl rfl (Nat.le_of_ble_eq_true rfl) (Nat.le_of_ble_eq_true rfl) e2 (fun r w' h => Af.sub [] rfl (k2 r w' h))
theorem e_J33_next_2_4 {G : Gm} {κ : Nat → Nat} {φ : Nat → Option Nat} (hS : GS G κ φ) {w : Wd} {Q : Rs → Wd → Prop} {a1 : Nat} (k1 : Q (.inl (some (.ref a1))) w) : Rn G mJ33_next_2 4 [] [.ref a1] w Q := by
  exact r_aret 2 rfl rfl (Or.inl ⟨_, rfl⟩) (Or.inr ⟨_, rfl⟩) k1
theorem e_J33_next {G : Gm} {κ : Nat → Nat} {φ : Nat → Option Nat} (hS : GS G κ φ) {w : Wd} {Q : Rs → Wd → Prop} {a1 : Nat} {p2 : Option Nat} {p3 : Option Nat} {x4 : Int32} {a5 : Nat} (o1 : Lk G w a1 (.inl (nJ33, [va_rf p2, va_rf p3, .int x4, .ref a5]))) {Q2 : Rs → Wd → Prop} (e2 : Ev G mJ33_next_2 [.ref a1] w Q2) (k2 : ∀ r w', Q2 r w' → Af G mJ33_next 1 4 [] [] r w' Q) : Ev G mJ33_next [.ref a1] w Q := by
  show Rn G mJ33_next 0 [(0, .ref a1)] [] w Q
  refine r_aload_n 0 1 0 rfl rfl rfl ?_
  exact r_callV lkV_J33_13_J33 (C := RJ33) (TT := TJ33) (NN := 4) rfl o1 1 4 rfl rfl (by decide) [] rfl rfl (Nat.le_of_ble_eq_true rfl) (Nat.le_of_ble_eq_true rfl) e2 (fun r w' h => Af.sub [] rfl (k2 r w' h))
theorem e_J33_next_4 {G : Gm} {κ : Nat → Nat} {φ : Nat → Option Nat} (hS : GS G κ φ) {w : Wd} {Q : Rs → Wd → Prop} {a1 : Nat} (k1 : Q (.inl (some (.ref a1))) w) : Rn G mJ33_next 4 [] [.ref a1] w Q := by
  exact r_aret 2 rfl rfl (Or.inl ⟨_, rfl⟩) (Or.inr ⟨_, rfl⟩) k1
theorem e_J8_successor {G : Gm} {κ : Nat → Nat} {φ : Nat → Option Nat} (hS : GS G κ φ) {w : Wd} {Q : Rs → Wd → Prop} {a1 : Nat} {a2 : Nat} {a3 : Nat} {p4 : Option Nat} {p5 : Option Nat} {p6 : Option Nat} {x7 : Int32} (o1 : Lk G w a1 (.inl (nJ29, [.ref a2, .ref a3, va_rf p4, va_rf p5, va_rf p6, .int x7]))) (k2 : p5 = none → Rn G mJ8_successor 42 [(1, va_rf p6), (2, .ref a1)] [] w Q) (k3 : ∀ pa8 : Nat, p5 = some pa8 → Rn G mJ8_successor 18 [(1, .ref pa8)] [] w Q) : Ev G mJ8_successor [.ref a1] w Q := by
  show Rn G mJ8_successor 0 [(0, .ref a1)] [] w Q
  refine r_aload_n 0 1 0 rfl rfl rfl ?_
  refine r_ifnonnull 1 6 rfl rfl ?_
  refine r_aload_n 4 7 0 rfl rfl rfl ?_
  refine r_get (v := va_rf p5) fl_J8_114_J29 5 10 rfl rfl o1 rfl ?_
  cases p5 with
  | none =>
    refine r_ifnullN 6 35 rfl rfl ?_
    refine r_aload_n 19 36 0 rfl rfl rfl ?_
    refine r_get (v := va_rf p6) fl_J8_124_J29 20 39 rfl rfl o1 rfl ?_
    refine x_astoreP_n (p := p6) (lv' := [(1, va_rf p6), (0, .ref a1)]) 21 40 rfl rfl (Nat.le_of_ble_eq_true rfl) (by cases p6 <;> rfl) ?_
    refine r_aload_n 22 41 1 rfl rfl rfl ?_
    refine r_astore_n (lv' := [(2, .ref a1), (1, va_rf p6), (0, .ref a1)]) 23 42 rfl rfl (Nat.le_of_ble_eq_true rfl) (by cases p6 <;> rfl) ?_
    exact r_sub [1, 0] rfl (k2 rfl)
  | some pa8 =>
    refine r_ifnull 6 13 rfl rfl ?_
    refine r_aload_n 7 14 0 rfl rfl rfl ?_
    refine r_get (v := .ref pa8) fl_J8_114_J29 8 17 rfl rfl o1 rfl ?_
    refine r_astore_n (lv' := [(1, .ref pa8), (0, .ref a1)]) 9 18 rfl rfl (Nat.le_of_ble_eq_true rfl) rfl ?_
    exact r_sub [0] rfl (k3 pa8 rfl)
theorem e_J8_successor_18 {G : Gm} {κ : Nat → Nat} {φ : Nat → Option Nat} (hS : GS G κ φ) {w : Wd} {Q : Rs → Wd → Prop} {a1 : Nat} {a2 : Nat} {a3 : Nat} {p4 : Option Nat} {p5 : Option Nat} {p6 : Option Nat} {x7 : Int32} (o1 : Lk G w a1 (.inl (nJ29, [.ref a2, .ref a3, va_rf p4, va_rf p5, va_rf p6, .int x7]))) (k2 : p4 = none → Q (.inl (some (.ref a1))) w) (k3 : ∀ pa8 : Nat, p4 = some pa8 → Rn G mJ8_successor 18 [(1, .ref pa8)] [] w Q) : Rn G mJ8_successor 18 [(1, .ref a1)] [] w Q := by
  refine r_aload_n 10 19 0 rfl rfl rfl ?_
  refine r_get (v := va_rf p4) fl_J8_111_J29 11 22 rfl rfl o1 rfl ?_
  cases p4 with
  | none =>
    refine r_ifnullN 12 33 rfl rfl ?_
    refine r_aload_n 17 34 0 rfl rfl rfl ?_
    exact r_aret 18 rfl rfl (Or.inl ⟨_, rfl⟩) (Or.inr ⟨_, rfl⟩) (k2 rfl)
  | some pa8 =>
    refine r_ifnull 12 25 rfl rfl ?_
    refine r_aload_n 13 26 0 rfl rfl rfl ?_
    refine r_get (v := .ref pa8) fl_J8_111_J29 14 29 rfl rfl o1 rfl ?_
    refine r_astore_n (lv' := [(1, .ref pa8)]) 15 30 rfl rfl (Nat.le_of_ble_eq_true rfl) rfl ?_
    refine r_goto 16 18 rfl rfl ?_
    exact (k3 pa8 rfl)
theorem e_J8_successor_42 {G : Gm} {κ : Nat → Nat} {φ : Nat → Option Nat} (hS : GS G κ φ) {w : Wd} {Q : Rs → Wd → Prop} {p1 : Option Nat} {a2 : Nat} {a4 : Nat} {a5 : Nat} {p6 : Option Nat} {p7 : Option Nat} {p8 : Option Nat} {x9 : Int32} (k1 : p1 = none → Q (.inl (some (.null))) w) (o2 : ∀ pa3 : Nat, p1 = some pa3 → Lk G w pa3 (.inl (nJ29, [.ref a4, .ref a5, va_rf p6, va_rf p7, va_rf p8, .int x9]))) (k3 : ∀ pa3 : Nat, p1 = some pa3 → p7 = none → Q (.inl (some (.ref pa3))) w) (k4 : ∀ pa3 : Nat, p1 = some pa3 → ∀ pa10 : Nat, p7 = some pa10 → ¬ a2 = pa10 → Q (.inl (some (.ref pa3))) w) (k5 : ∀ pa3 : Nat, p1 = some pa3 → ∀ pa10 : Nat, p7 = some pa10 → a2 = pa10 → Rn G mJ8_successor 42 [(1, va_rf p8), (2, .ref pa3)] [] w Q) : Rn G mJ8_successor 42 [(1, va_rf p1), (2, .ref a2)] [] w Q := by
  refine x_aloadP_n (p := p1) 24 43 0 rfl rfl rfl ?_
  cases p1 with
  | none =>
    refine r_ifnullN 25 64 rfl rfl ?_
    refine r_aloadN_n 36 65 0 rfl rfl rfl ?_
    exact r_aret 37 rfl rfl (Or.inl ⟨_, rfl⟩) (Or.inl rfl) (k1 rfl)
  | some pa3 =>
    refine r_ifnull 25 46 rfl rfl ?_
    refine r_aload_n 26 47 1 rfl rfl rfl ?_
    refine r_aload_n 27 48 0 rfl rfl rfl ?_
    refine r_get (v := va_rf p7) fl_J8_114_J29 28 51 rfl rfl (o2 pa3 rfl) rfl ?_
    cases p7 with
    | none =>
      refine r_acmp_ne (rx := (some a2)) (ry := none) 29 54 64 rfl rfl rfl rfl rfl (fun _ => ?_) (fun h => by cases h)
      refine r_aload_n 36 65 0 rfl rfl rfl ?_
      exact r_aret 37 rfl rfl (Or.inl ⟨_, rfl⟩) (Or.inr ⟨_, rfl⟩) (k3 pa3 rfl rfl)
    | some pa10 =>
      refine r_acmp_ne (rx := (some a2)) (ry := (some pa10)) 29 54 64 rfl rfl rfl rfl rfl (fun c3 => ?_) (fun c3 => ?_)
      · refine r_aload_n 36 65 0 rfl rfl rfl ?_
        exact r_aret 37 rfl rfl (Or.inl ⟨_, rfl⟩) (Or.inr ⟨_, rfl⟩) (k4 pa3 rfl pa10 rfl (fun h => c3 (congrArg some h)))
      · refine r_aload_n 30 55 0 rfl rfl rfl ?_
        refine r_astore_n (lv' := [(2, .ref pa3), (1, .ref pa3)]) 31 56 rfl rfl (Nat.le_of_ble_eq_true rfl) rfl ?_
        refine r_aload_n 32 57 1 rfl rfl rfl ?_
        refine r_get (v := va_rf p8) fl_J8_124_J29 33 60 rfl rfl (o2 pa3 rfl) rfl ?_
        refine x_astoreP_n (p := p8) (lv' := [(1, va_rf p8), (2, .ref pa3)]) 34 61 rfl rfl (Nat.le_of_ble_eq_true rfl) (by cases p8 <;> rfl) ?_
        refine r_goto 35 42 rfl rfl ?_
        exact (k5 pa3 rfl pa10 rfl (Option.some.inj c3))
