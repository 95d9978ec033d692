set_option maxRecDepth 100000
theorem lkV_X4_53_J6 : LkV RX4 53 RJ6 mJ6_get 1 := ⟨okJ6_get, q1856, q1283, q1284, ⟨by decide, by decide⟩, by decide +kernel⟩
theorem lkV_X4_42_J21 : LkV RX4 42 RJ21 mJ21_get 1 := ⟨okJ21_get, q1851, q1852, q1853, ⟨by decide, by decide⟩, by decide +kernel⟩
theorem lkV_X8_54_X8 : LkV RX8 54 RX8 mX8_size 0 := ⟨okX8_size, q1930, q1800, q1801, ⟨by decide, by decide⟩, by decide +kernel⟩
theorem lkV_X8_57_X8 : LkV RX8 57 RX8 mX8_item 1 := ⟨okX8_item, q1931, q1817, q1818, ⟨by decide, by decide⟩, by decide +kernel⟩
theorem lkV_X8_61_X8 : LkV RX8 61 RX8 mX8_refers 0 := ⟨okX8_refers, q1521, q1404, q1405, ⟨by decide, by decide⟩, by decide +kernel⟩
theorem lkU_X8_64_X6 : LkU RX8 64 RX6 "java/lang/Enum" ⟨"ExchangeText$Sort", "ordinal", "()I"⟩ mJ24_ordinal 0 := ⟨okJ24_ordinal, q1498, q1499, q1501, q1502, Or.inr q1500, ⟨by decide, by decide⟩, by decide +kernel⟩
theorem lkV_X8_67_J1 : LkV RX8 67 RJ1 mJ1_append_3 1 := ⟨okJ1_append_3, q1504, q1219, q1220, ⟨by decide, by decide⟩, by decide +kernel⟩
theorem lkV_X8_73_J1 : LkV RX8 73 RJ1 mJ1_append_2 1 := ⟨okJ1_append_2, q1517, q490, q491, ⟨by decide, by decide⟩, by decide +kernel⟩
theorem lkV_X8_85_J1 : LkV RX8 85 RJ1 mJ1_append 1 := ⟨okJ1_append, q1523, q421, q422, ⟨by decide, by decide⟩, by decide +kernel⟩
theorem lkV_X7_24_J6 : LkV RX7 24 RJ6 mJ6_iterator 0 := ⟨okJ6_iterator, q1397, q658, q659, ⟨by decide, by decide⟩, by decide +kernel⟩
theorem lkF_X7_28_J22 : LkF RX7 28 RJ22 ⟨"java/util/Iterator", "hasNext", "()Z"⟩ mJ22_hasNext 0 := ⟨okJ22_hasNext, q1399, q685, q687, q683, q682, q688, q686, q684, ⟨by decide, by decide⟩, by decide +kernel⟩
theorem lkF_X7_34_J22 : LkF RX7 34 RJ22 ⟨"java/util/Iterator", "next", "()Ljava/lang/Object;"⟩ mJ22_next 0 := ⟨okJ22_next, q1401, q700, q702, q699, q698, q703, q701, q684, ⟨by decide, by decide⟩, by decide +kernel⟩
theorem lkV_X7_40_X8 : LkV RX7 40 RX8 mX8_refers 0 := ⟨okX8_refers, q1403, q1404, q1405, ⟨by decide, by decide⟩, by decide +kernel⟩
theorem lkS_X7_47 : LkS RX7 47 mJ20_valueOf 1 := ⟨okJ20_valueOf, q1409, q936, ⟨by decide, by decide⟩, by decide +kernel⟩
theorem lkV_X7_53_J6 : LkV RX7 53 RJ6 mJ6_add 1 := ⟨okJ6_add, q1410, q839, q840, ⟨by decide, by decide⟩, by decide +kernel⟩
theorem lkV_X7_57_J6 : LkV RX7 57 RJ6 mJ6_size 0 := ⟨okJ6_size, q1490, q654, q655, ⟨by decide, by decide⟩, by decide +kernel⟩
theorem lkV_X7_61_J6 : LkV RX7 61 RJ6 mJ6_get 1 := ⟨okJ6_get, q1493, q1283, q1284, ⟨by decide, by decide⟩, by decide +kernel⟩
theorem lkV_X7_80_J2 : LkV RX7 80 RJ2 mJ2_equals 1 := ⟨okJ2_equals, q1925, q728, q729, ⟨by decide, by decide⟩, by decide +kernel⟩
theorem lkV_X7_85_X8 : LkV RX7 85 RX8 mX8_isSame 1 := ⟨okX8_isSame, q1926, q1927, q1928, ⟨by decide, by decide⟩, by decide +kernel⟩
theorem lkV_X7_89_J1 : LkV RX7 89 RJ1 mJ1_append_3 1 := ⟨okJ1_append_3, q1487, q1219, q1220, ⟨by decide, by decide⟩, by decide +kernel⟩
theorem lkV_X7_95_J1 : LkV RX7 95 RJ1 mJ1_append 1 := ⟨okJ1_append, q1488, q421, q422, ⟨by decide, by decide⟩, by decide +kernel⟩
theorem lkV_X7_98_J1 : LkV RX7 98 RJ1 mJ1_append_2 1 := ⟨okJ1_append_2, q1489, q490, q491, ⟨by decide, by decide⟩, by decide +kernel⟩
theorem lkV_X7_105_X8 : LkV RX7 105 RX8 mX8_write 1 := ⟨okX8_write, q1494, q1495, q1496, ⟨by decide, by decide⟩, by decide +kernel⟩
theorem sw_X8_write_7 {G : Gm} {lv : List (Nat × Value)} {st : List Value} {w : Wd} {Q : Rs → Wd → Prop} {x : Int32} (u0 : ¬ x = 1) (u1 : ¬ x = 5) (u2 : ¬ x = 6) (kk : Rn G mX8_write 141 lv st w Q) : Rn G mX8_write 7 lv (.int x :: st) w Q := by
  have g0 : x.toInt ≠ 1 := fun h => u0 (Int32.toInt_inj.mp (h.trans (by decide)))
  have g1 : x.toInt ≠ 5 := fun h => u1 (Int32.toInt_inj.mp (h.trans (by decide)))
  have g2 : x.toInt ≠ 6 := fun h => u2 (Int32.toInt_inj.mp (h.trans (by decide)))
  refine r_lookup (off := 134) 3 141 rfl (by decide) ?_ rfl kk
  simp [Op.lookupswitch.offset, g0, Ne.symm g0, g1, Ne.symm g1, g2, Ne.symm g2]
theorem e_X4_takes {G : Gm} {κ : Nat → Nat} {φ : Nat → Option Nat} (hS : GS G κ φ) {w : Wd} {Q : Rs → Wd → Prop} {a1 : Nat} {m2 : Nat} {a3 : Nat} {a4 : Nat} {a5 : Nat} {a6 : Nat} {a7 : Nat} {a8 : Nat} {a9 : Nat} {x10 : Int32} {a11 : Nat} {m12 : Nat} {n13 : Nat} {g14 : Nat → Option Nat} {a15 : Nat} {n16 : Nat} {g17 : Nat → Int32} {a18 : Nat} {a19 : Nat} {a20 : Nat} {a21 : Nat} {a22 : Nat} {m23 : Nat} (o1 : Lk G w a3 (.inl (nX8, [.ref a4, .ref a5, .ref a6]))) (o2 : Lk G w a1 (.inl (nX4, [.ref a7, .ref a8, .ref a9]))) (o3 : Lk G w a8 (.inl (nJ6, [.int x10, .ref a11, .int (nI m12)]))) (o4 : Lk G w a11 (arR "java/lang/Object" n13 g14)) (b5 : ¬ a4 = (κ 16) → ¬ a4 = (κ 13) → m2 < 2 ^ 31) (b6 : ¬ a4 = (κ 16) → ¬ a4 = (κ 13) → m12 < 2 ^ 31) (f7 : ¬ a4 = (κ 16) → ¬ a4 = (κ 13) → m2 < m12) (b8 : ¬ a4 = (κ 16) → ¬ a4 = (κ 13) → m2 < n13) (b9 : ¬ a4 = (κ 16) → ¬ a4 = (κ 13) → n13 < 2 ^ 31) (q10 : ¬ a4 = (κ 16) → ¬ a4 = (κ 13) → (g14 m2) = some a15) (k11 : ¬ a4 = (κ 16) → ¬ a4 = (κ 13) → a4 = a15 → Q (.inl (some (.int 1))) w) (k12 : ¬ a4 = (κ 16) → ¬ a4 = (κ 13) → ¬ a4 = a15 → Q (.inl (some (.int 0))) w) (o13 : Lk G w a6 (arI .int n16 g17)) (bd14 : n16 < 2 ^ 31) (b15 : ¬ a4 = (κ 16) → a4 = (κ 13) → ¬ n16 = 0 → m2 < 2 ^ 31) (b16 : ¬ a4 = (κ 16) → a4 = (κ 13) → ¬ n16 = 0 → m12 < 2 ^ 31) (f17 : ¬ a4 = (κ 16) → a4 = (κ 13) → ¬ n16 = 0 → m2 < m12) (b18 : ¬ a4 = (κ 16) → a4 = (κ 13) → ¬ n16 = 0 → m2 < n13) (b19 : ¬ a4 = (κ 16) → a4 = (κ 13) → ¬ n16 = 0 → n13 < 2 ^ 31) (q20 : ¬ a4 = (κ 16) → a4 = (κ 13) → ¬ n16 = 0 → (g14 m2) = some a18) (k21 : ¬ a4 = (κ 16) → a4 = (κ 13) → ¬ n16 = 0 → a4 = a18 → Q (.inl (some (.int 1))) w) (k22 : ¬ a4 = (κ 16) → a4 = (κ 13) → ¬ n16 = 0 → ¬ a4 = a18 → Q (.inl (some (.int 0))) w) (b23 : ¬ a4 = (κ 16) → a4 = (κ 13) → n16 = 0 → m2 < 2 ^ 31) (b24 : ¬ a4 = (κ 16) → a4 = (κ 13) → n16 = 0 → m12 < 2 ^ 31) (f25 : ¬ a4 = (κ 16) → a4 = (κ 13) → n16 = 0 → m2 < m12) (b26 : ¬ a4 = (κ 16) → a4 = (κ 13) → n16 = 0 → m2 < n13) (b27 : ¬ a4 = (κ 16) → a4 = (κ 13) → n16 = 0 → n13 < 2 ^ 31) (q28 : ¬ a4 = (κ 16) → a4 = (κ 13) → n16 = 0 → (g14 m2) = some a19) (q29 : ¬ a4 = (κ 16) → a4 = (κ 13) → n16 = 0 → ¬ a19 = (κ 14) → (g14 m2) = some a20) (k30 : ¬ a4 = (κ 16) → a4 = (κ 13) → n16 = 0 → ¬ a19 = (κ 14) → a4 = a20 → Q (.inl (some (.int 1))) w) (k31 : ¬ a4 = (κ 16) → a4 = (κ 13) → n16 = 0 → ¬ a19 = (κ 14) → ¬ a4 = a20 → Q (.inl (some (.int 0))) w) (q32 : ¬ a4 = (κ 16) → a4 = (κ 13) → n16 = 0 → a19 = (κ 14) → (g14 m2) = some a21) (k33 : ¬ a4 = (κ 16) → a4 = (κ 13) → n16 = 0 → a19 = (κ 14) → a4 = a21 → Q (.inl (some (.int 1))) w) (k34 : ¬ a4 = (κ 16) → a4 = (κ 13) → n16 = 0 → a19 = (κ 14) → ¬ a4 = a21 → Q (.inl (some (.int 1))) w) (o35 : Lk G w a9 (.inl (nJ21, [.ref a22, .int (nI m23), .int 0]))) {Q36 : Rs → Wd → Prop} (e36 : a4 = (κ 16) → Ev G mJ21_get [.ref a9, .int (nI m2)] w Q36) (k36 : a4 = (κ 16) → ∀ r w', Q36 r w' → Af G mX4_takes 15 18 [] [] r w' Q) : Ev G mX4_takes [.ref a1, .int (nI m2), .ref a3] w Q := by
  show Rn G mX4_takes 0 [(0, .ref a1), (1, .int (nI m2)), (2, .ref a3)] [] w Q
  refine r_aload_n 0 1 2 rfl rfl rfl ?_
  refine r_getN (i := 0) (host := "ExchangeText") (T := TX8) (C := RX8) (NN := 3) rfl (by decide) q1248 1 4 rfl rfl o1 rfl ?_
  refine r_gets (v := .ref (κ 16)) (hS 16).1 q1850 2 7 rfl rfl ?_
  refine r_acmp_ne (rx := (some a4)) (ry := (some (κ 16))) 3 10 19 rfl rfl rfl rfl rfl (fun c1 => ?_) (fun c1 => ?_)
  · refine r_aload_n 9 20 2 rfl rfl rfl ?_
    refine r_getN (i := 0) (host := "ExchangeText") (T := TX8) (C := RX8) (NN := 3) rfl (by decide) q1248 10 23 rfl rfl o1 rfl ?_
    refine r_gets (v := .ref (κ 13)) (hS 13).1 q1855 11 26 rfl rfl ?_
    refine r_acmp_ne (rx := (some a4)) (ry := (some (κ 13))) 12 29 55 rfl rfl rfl rfl rfl (fun c2 => ?_) (fun c2 => ?_)
    · refine r_iconst 25 56 rfl rfl di_0 ?_
      refine r_istore_n (lv' := [(3, .int 0), (0, .ref a1), (1, .int (nI m2)), (2, .ref a3)]) 26 57 rfl rfl (Nat.le_of_ble_eq_true rfl) rfl ?_
      refine r_aload_n 27 58 3 rfl rfl rfl ?_
      refine r_getN (i := 0) (host := "ExchangeText") (T := TX8) (C := RX8) (NN := 3) rfl (by decide) q1248 28 61 rfl rfl o1 rfl ?_
      refine r_aload_n 29 62 1 rfl rfl rfl ?_
      refine r_get (v := .ref a8) fl_X4_10_X4 30 65 rfl rfl o2 rfl ?_
      refine r_iload_n 31 66 2 rfl rfl rfl ?_
      refine r_callV lkV_X4_53_J6 (C := RJ6) (TT := TJ6) (NN := 3) rfl o3 32 69 rfl rfl (by decide) [.int (nI m2)] rfl rfl (Nat.le_of_ble_eq_true rfl) (Nat.le_of_ble_eq_true rfl) (e_J6_get hS (a8 := a15) (m5 := m12) (m2 := m2) (o1 := o3) (b2 := (b5 (fun h => c1 (congrArg some h)) (fun h => c2 (congrArg some h)))) (b3 := (b6 (fun h => c1 (congrArg some h)) (fun h => c2 (congrArg some h)))) (f4 := (f7 (fun h => c1 (congrArg some h)) (fun h => c2 (congrArg some h)))) (o5 := o4) (b6 := (b8 (fun h => c1 (congrArg some h)) (fun h => c2 (congrArg some h)))) (b7 := (b9 (fun h => c1 (congrArg some h)) (fun h => c2 (congrArg some h)))) (q8 := (q10 (fun h => c1 (congrArg some h)) (fun h => c2 (congrArg some h)))) (k9 := ?_)) (fun _ _ h => h)
      show Rn G mX4_takes 69 [(3, .int 0), (0, .ref a1), (1, .int (nI m2)), (2, .ref a3)] [.ref a15, .ref a4] w _
      refine r_acmp_eq (rx := (some a4)) (ry := (some a15)) 33 72 76 rfl rfl rfl rfl rfl (fun c3 => ?_) (fun c3 => ?_)
      · refine r_iconst 36 77 rfl rfl di_1 ?_
        refine r_goto 37 81 rfl rfl ?_
        exact r_iret 39 rfl rfl (by decide) (k11 (fun h => c1 (congrArg some h)) (fun h => c2 (congrArg some h)) (Option.some.inj c3))
      · refine r_iload_n 34 73 0 rfl rfl rfl ?_
        refine r_if_eq 35 76 80 rfl rfl rfl (fun _ => ?_) (fun c => absurd c (by decide))
        refine r_iconst 38 81 rfl rfl di_0 ?_
        exact r_iret 39 rfl rfl (by decide) (k12 (fun h => c1 (congrArg some h)) (fun h => c2 (congrArg some h)) (fun h => c3 (congrArg some h)))
    · refine r_aload_n 13 30 2 rfl rfl rfl ?_
      refine r_getN (i := 2) (host := "ExchangeText") (T := TX8) (C := RX8) (NN := 3) rfl (by decide) q1254 14 33 rfl rfl o1 rfl ?_
      refine r_alen 15 34 rfl rfl o13 ?_
      refine y_if_ne (a := n16) bd14 16 37 55 rfl rfl rfl (fun c3 => ?_) (fun c3 => ?_)
      · refine r_iconst 25 56 rfl rfl di_0 ?_
        refine r_istore_n (lv' := [(3, .int 0), (0, .ref a1), (1, .int (nI m2)), (2, .ref a3)]) 26 57 rfl rfl (Nat.le_of_ble_eq_true rfl) rfl ?_
        refine r_aload_n 27 58 3 rfl rfl rfl ?_
        refine r_getN (i := 0) (host := "ExchangeText") (T := TX8) (C := RX8) (NN := 3) rfl (by decide) q1248 28 61 rfl rfl o1 rfl ?_
        refine r_aload_n 29 62 1 rfl rfl rfl ?_
        refine r_get (v := .ref a8) fl_X4_10_X4 30 65 rfl rfl o2 rfl ?_
        refine r_iload_n 31 66 2 rfl rfl rfl ?_
        refine r_callV lkV_X4_53_J6 (C := RJ6) (TT := TJ6) (NN := 3) rfl o3 32 69 rfl rfl (by decide) [.int (nI m2)] rfl rfl (Nat.le_of_ble_eq_true rfl) (Nat.le_of_ble_eq_true rfl) (e_J6_get hS (a8 := a18) (m5 := m12) (m2 := m2) (o1 := o3) (b2 := (b15 (fun h => c1 (congrArg some h)) (Option.some.inj c2) c3)) (b3 := (b16 (fun h => c1 (congrArg some h)) (Option.some.inj c2) c3)) (f4 := (f17 (fun h => c1 (congrArg some h)) (Option.some.inj c2) c3)) (o5 := o4) (b6 := (b18 (fun h => c1 (congrArg some h)) (Option.some.inj c2) c3)) (b7 := (b19 (fun h => c1 (congrArg some h)) (Option.some.inj c2) c3)) (q8 := (q20 (fun h => c1 (congrArg some h)) (Option.some.inj c2) c3)) (k9 := ?_)) (fun _ _ h => h)
        show Rn G mX4_takes 69 [(3, .int 0), (0, .ref a1), (1, .int (nI m2)), (2, .ref a3)] [.ref a18, .ref a4] w _
        refine r_acmp_eq (rx := (some a4)) (ry := (some a18)) 33 72 76 rfl rfl rfl rfl rfl (fun c4 => ?_) (fun c4 => ?_)
        · refine r_iconst 36 77 rfl rfl di_1 ?_
          refine r_goto 37 81 rfl rfl ?_
          exact r_iret 39 rfl rfl (by decide) (k21 (fun h => c1 (congrArg some h)) (Option.some.inj c2) c3 (Option.some.inj c4))
        · refine r_iload_n 34 73 0 rfl rfl rfl ?_
          refine r_if_eq 35 76 80 rfl rfl rfl (fun _ => ?_) (fun c => absurd c (by decide))
          refine r_iconst 38 81 rfl rfl di_0 ?_
          exact r_iret 39 rfl rfl (by decide) (k22 (fun h => c1 (congrArg some h)) (Option.some.inj c2) c3 (fun h => c4 (congrArg some h)))
      · refine r_aload_n 17 38 0 rfl rfl rfl ?_
        refine r_get (v := .ref a8) fl_X4_10_X4 18 41 rfl rfl o2 rfl ?_
        refine r_iload_n 19 42 1 rfl rfl rfl ?_
        refine r_callV lkV_X4_53_J6 (C := RJ6) (TT := TJ6) (NN := 3) rfl o3 20 45 rfl rfl (by decide) [.int (nI m2)] rfl rfl (Nat.le_of_ble_eq_true rfl) (Nat.le_of_ble_eq_true rfl) (e_J6_get hS (a8 := a19) (m5 := m12) (m2 := m2) (o1 := o3) (b2 := (b23 (fun h => c1 (congrArg some h)) (Option.some.inj c2) c3)) (b3 := (b24 (fun h => c1 (congrArg some h)) (Option.some.inj c2) c3)) (f4 := (f25 (fun h => c1 (congrArg some h)) (Option.some.inj c2) c3)) (o5 := o4) (b6 := (b26 (fun h => c1 (congrArg some h)) (Option.some.inj c2) c3)) (b7 := (b27 (fun h => c1 (congrArg some h)) (Option.some.inj c2) c3)) (q8 := (q28 (fun h => c1 (congrArg some h)) (Option.some.inj c2) c3)) (k9 := ?_)) (fun _ _ h => h)
        show Rn G mX4_takes 45 [(0, .ref a1), (1, .int (nI m2)), (2, .ref a3)] [.ref a19] w _
        refine r_gets (v := .ref (κ 14)) (hS 14).1 q1857 21 48 rfl rfl ?_
        refine r_acmp_ne (rx := (some a19)) (ry := (some (κ 14))) 22 51 55 rfl rfl rfl rfl rfl (fun c4 => ?_) (fun c4 => ?_)
        · refine r_iconst 25 56 rfl rfl di_0 ?_
          refine r_istore_n (lv' := [(3, .int 0), (0, .ref a1), (1, .int (nI m2)), (2, .ref a3)]) 26 57 rfl rfl (Nat.le_of_ble_eq_true rfl) rfl ?_
          refine r_aload_n 27 58 3 rfl rfl rfl ?_
          refine r_getN (i := 0) (host := "ExchangeText") (T := TX8) (C := RX8) (NN := 3) rfl (by decide) q1248 28 61 rfl rfl o1 rfl ?_
          refine r_aload_n 29 62 1 rfl rfl rfl ?_
          refine r_get (v := .ref a8) fl_X4_10_X4 30 65 rfl rfl o2 rfl ?_
          refine r_iload_n 31 66 2 rfl rfl rfl ?_
          refine r_callV lkV_X4_53_J6 (C := RJ6) (TT := TJ6) (NN := 3) rfl o3 32 69 rfl rfl (by decide) [.int (nI m2)] rfl rfl (Nat.le_of_ble_eq_true rfl) (Nat.le_of_ble_eq_true rfl) (e_J6_get hS (a8 := a20) (m5 := m12) (m2 := m2) (o1 := o3) (b2 := (b23 (fun h => c1 (congrArg some h)) (Option.some.inj c2) c3)) (b3 := (b24 (fun h => c1 (congrArg some h)) (Option.some.inj c2) c3)) (f4 := (f25 (fun h => c1 (congrArg some h)) (Option.some.inj c2) c3)) (o5 := o4) (b6 := (b26 (fun h => c1 (congrArg some h)) (Option.some.inj c2) c3)) (b7 := (b27 (fun h => c1 (congrArg some h)) (Option.some.inj c2) c3)) (q8 := (q29 (fun h => c1 (congrArg some h)) (Option.some.inj c2) c3 (fun h => c4 (congrArg some h)))) (k9 := ?_)) (fun _ _ h => h)
          show Rn G mX4_takes 69 [(3, .int 0), (0, .ref a1), (1, .int (nI m2)), (2, .ref a3)] [.ref a20, .ref a4] w _
          refine r_acmp_eq (rx := (some a4)) (ry := (some a20)) 33 72 76 rfl rfl rfl rfl rfl (fun c5 => ?_) (fun c5 => ?_)
          · refine r_iconst 36 77 rfl rfl di_1 ?_
            refine r_goto 37 81 rfl rfl ?_
            exact r_iret 39 rfl rfl (by decide) (k30 (fun h => c1 (congrArg some h)) (Option.some.inj c2) c3 (fun h => c4 (congrArg some h)) (Option.some.inj c5))
          · refine r_iload_n 34 73 0 rfl rfl rfl ?_
            refine r_if_eq 35 76 80 rfl rfl rfl (fun _ => ?_) (fun c => absurd c (by decide))
            refine r_iconst 38 81 rfl rfl di_0 ?_
            exact r_iret 39 rfl rfl (by decide) (k31 (fun h => c1 (congrArg some h)) (Option.some.inj c2) c3 (fun h => c4 (congrArg some h)) (fun h => c5 (congrArg some h)))
        · refine r_iconst 23 52 rfl rfl di_1 ?_
          refine r_goto 24 56 rfl rfl ?_
          refine r_istore_n (lv' := [(3, .int 1), (0, .ref a1), (1, .int (nI m2)), (2, .ref a3)]) 26 57 rfl rfl (Nat.le_of_ble_eq_true rfl) rfl ?_
          refine r_aload_n 27 58 3 rfl rfl rfl ?_
          refine r_getN (i := 0) (host := "ExchangeText") (T := TX8) (C := RX8) (NN := 3) rfl (by decide) q1248 28 61 rfl rfl o1 rfl ?_
          refine r_aload_n 29 62 1 rfl rfl rfl ?_
          refine r_get (v := .ref a8) fl_X4_10_X4 30 65 rfl rfl o2 rfl ?_
          refine r_iload_n 31 66 2 rfl rfl rfl ?_
          refine r_callV lkV_X4_53_J6 (C := RJ6) (TT := TJ6) (NN := 3) rfl o3 32 69 rfl rfl (by decide) [.int (nI m2)] rfl rfl (Nat.le_of_ble_eq_true rfl) (Nat.le_of_ble_eq_true rfl) (e_J6_get hS (a8 := a21) (m5 := m12) (m2 := m2) (o1 := o3) (b2 := (b23 (fun h => c1 (congrArg some h)) (Option.some.inj c2) c3)) (b3 := (b24 (fun h => c1 (congrArg some h)) (Option.some.inj c2) c3)) (f4 := (f25 (fun h => c1 (congrArg some h)) (Option.some.inj c2) c3)) (o5 := o4) (b6 := (b26 (fun h => c1 (congrArg some h)) (Option.some.inj c2) c3)) (b7 := (b27 (fun h => c1 (congrArg some h)) (Option.some.inj c2) c3)) (q8 := (q32 (fun h => c1 (congrArg some h)) (Option.some.inj c2) c3 (Option.some.inj c4))) (k9 := ?_)) (fun _ _ h => h)
          show Rn G mX4_takes 69 [(3, .int 1), (0, .ref a1), (1, .int (nI m2)), (2, .ref a3)] [.ref a21, .ref a4] w _
          refine r_acmp_eq (rx := (some a4)) (ry := (some a21)) 33 72 76 rfl rfl rfl rfl rfl (fun c5 => ?_) (fun c5 => ?_)
          · refine r_iconst 36 77 rfl rfl di_1 ?_
            refine r_goto 37 81 rfl rfl ?_
            exact r_iret 39 rfl rfl (by decide) (k33 (fun h => c1 (congrArg some h)) (Option.some.inj c2) c3 (Option.some.inj c4) (Option.some.inj c5))
          · refine r_iload_n 34 73 0 rfl rfl rfl ?_
            refine r_if_eq 35 76 80 rfl rfl rfl (fun c => absurd c (by decide)) (fun _ => ?_)
            refine r_iconst 36 77 rfl rfl di_1 ?_
            refine r_goto 37 81 rfl rfl ?_
            exact r_iret 39 rfl rfl (by decide) (k34 (fun h => c1 (congrArg some h)) (Option.some.inj c2) c3 (Option.some.inj c4) (fun h => c5 (congrArg some h)))
  · refine r_aload_n 4 11 0 rfl rfl rfl ?_
    refine r_get (v := .ref a9) fl_X4_19_X4 5 14 rfl rfl o2 rfl ?_
    refine r_iload_n 6 15 1 rfl rfl rfl ?_
    exact r_callV lkV_X4_42_J21 (C := RJ21) (TT := TJ21) (NN := 3) rfl o35 7 18 rfl rfl (by decide) [.int (nI m2)] rfl rfl (Nat.le_of_ble_eq_true rfl) (Nat.le_of_ble_eq_true rfl) (e36 (Option.some.inj c1)) (fun r w' h => Af.sub [] rfl ((k36 (Option.some.inj c1)) r w' h))
theorem e_X4_takes_18 {G : Gm} {κ : Nat → Nat} {φ : Nat → Option Nat} (hS : GS G κ φ) {w : Wd} {Q : Rs → Wd → Prop} {x1 : Int32} (q1 : narrow .boolean (.int x1) = .int x1) (k2 : Q (.inl (some (.int x1))) w) : Rn G mX4_takes 18 [] [.int x1] w Q := by
  exact r_iret 8 rfl rfl q1 k2
theorem e_X8_isSame {G : Gm} {κ : Nat → Nat} {φ : Nat → Option Nat} (hS : GS G κ φ) {w : Wd} {Q : Rs → Wd → Prop} {a1 : Nat} {a2 : Nat} {a3 : Nat} {a4 : Nat} {a5 : Nat} {a6 : Nat} {a7 : Nat} {a8 : Nat} {a9 : Nat} {x10 : Int32} {x11 : Int32} {n12 : Nat} {g13 : Nat → Nat} {n14 : Nat} {g15 : Nat → Int32} {a16 : Nat} {x17 : Int32} {x18 : Int32} {n19 : Nat} {g20 : Nat → Nat} {n21 : Nat} {g22 : Nat → Int32} (o1 : Lk G w a1 (.inl (nX8, [.ref a3, .ref a4, .ref a5]))) (o2 : Lk G w a2 (.inl (nX8, [.ref a6, .ref a7, .ref a8]))) (k3 : ¬ a3 = a6 → Rn G mX8_isSame 30 [(0, .ref a1), (1, .ref a2), (2, .int 0), (3, .int 0)] [] w Q) (o4 : Lk G w a4 (.inl (nJ2, [.ref a9, .int 0, .int x10, .int x11]))) (o5 : Lk G w a9 (arB n12 g13)) (o6 : Lk G w a5 (arI .int n14 g15)) (o7 : Lk G w a7 (.inl (nJ2, [.ref a16, .int 0, .int x17, .int x18]))) (o8 : Lk G w a16 (arB n19 g20)) (o9 : Lk G w a8 (arI .int n21 g22)) (bd10 : n12 < 2 ^ 31) (bd11 : n19 < 2 ^ 31) (k12 : a3 = a6 → a3 = (κ 11) → a6 = (κ 11) → ¬ n12 = n19 → Rn G mX8_isSame 30 [(0, .ref a1), (1, .ref a2), (2, .int 0), (3, .int 0)] [] w Q) (k13 : a3 = a6 → a3 = (κ 11) → a6 = (κ 11) → n12 = n19 → Rn G mX8_isSame 30 [(0, .ref a1), (1, .ref a2), (2, .int 1), (3, .int 0)] [] w Q) (bd14 : n21 < 2 ^ 31) (k15 : a3 = a6 → a3 = (κ 11) → ¬ a6 = (κ 11) → ¬ a6 = (κ 15) → ¬ n12 = n21 → Rn G mX8_isSame 30 [(0, .ref a1), (1, .ref a2), (2, .int 0), (3, .int 0)] [] w Q) (k16 : a3 = a6 → a3 = (κ 11) → ¬ a6 = (κ 11) → ¬ a6 = (κ 15) → n12 = n21 → Rn G mX8_isSame 30 [(0, .ref a1), (1, .ref a2), (2, .int 1), (3, .int 0)] [] w Q) (k17 : a3 = a6 → a3 = (κ 11) → ¬ a6 = (κ 11) → a6 = (κ 15) → ¬ n12 = n19 → Rn G mX8_isSame 30 [(0, .ref a1), (1, .ref a2), (2, .int 0), (3, .int 0)] [] w Q) (k18 : a3 = a6 → a3 = (κ 11) → ¬ a6 = (κ 11) → a6 = (κ 15) → n12 = n19 → Rn G mX8_isSame 30 [(0, .ref a1), (1, .ref a2), (2, .int 1), (3, .int 0)] [] w Q) (bd19 : n14 < 2 ^ 31) (k20 : a3 = a6 → ¬ a3 = (κ 11) → ¬ a3 = (κ 15) → a6 = (κ 11) → ¬ n14 = n19 → Rn G mX8_isSame 30 [(0, .ref a1), (1, .ref a2), (2, .int 0), (3, .int 0)] [] w Q) (k21 : a3 = a6 → ¬ a3 = (κ 11) → ¬ a3 = (κ 15) → a6 = (κ 11) → n14 = n19 → Rn G mX8_isSame 30 [(0, .ref a1), (1, .ref a2), (2, .int 1), (3, .int 0)] [] w Q) (k22 : a3 = a6 → ¬ a3 = (κ 11) → ¬ a3 = (κ 15) → ¬ a6 = (κ 11) → ¬ a6 = (κ 15) → ¬ n14 = n21 → Rn G mX8_isSame 30 [(0, .ref a1), (1, .ref a2), (2, .int 0), (3, .int 0)] [] w Q) (k23 : a3 = a6 → ¬ a3 = (κ 11) → ¬ a3 = (κ 15) → ¬ a6 = (κ 11) → ¬ a6 = (κ 15) → n14 = n21 → Rn G mX8_isSame 30 [(0, .ref a1), (1, .ref a2), (2, .int 1), (3, .int 0)] [] w Q) (k24 : a3 = a6 → ¬ a3 = (κ 11) → ¬ a3 = (κ 15) → ¬ a6 = (κ 11) → a6 = (κ 15) → ¬ n14 = n19 → Rn G mX8_isSame 30 [(0, .ref a1), (1, .ref a2), (2, .int 0), (3, .int 0)] [] w Q) (k25 : a3 = a6 → ¬ a3 = (κ 11) → ¬ a3 = (κ 15) → ¬ a6 = (κ 11) → a6 = (κ 15) → n14 = n19 → Rn G mX8_isSame 30 [(0, .ref a1), (1, .ref a2), (2, .int 1), (3, .int 0)] [] w Q) (k26 : a3 = a6 → ¬ a3 = (κ 11) → a3 = (κ 15) → a6 = (κ 11) → ¬ n12 = n19 → Rn G mX8_isSame 30 [(0, .ref a1), (1, .ref a2), (2, .int 0), (3, .int 0)] [] w Q) (k27 : a3 = a6 → ¬ a3 = (κ 11) → a3 = (κ 15) → a6 = (κ 11) → n12 = n19 → Rn G mX8_isSame 30 [(0, .ref a1), (1, .ref a2), (2, .int 1), (3, .int 0)] [] w Q) (k28 : a3 = a6 → ¬ a3 = (κ 11) → a3 = (κ 15) → ¬ a6 = (κ 11) → ¬ a6 = (κ 15) → ¬ n12 = n21 → Rn G mX8_isSame 30 [(0, .ref a1), (1, .ref a2), (2, .int 0), (3, .int 0)] [] w Q) (k29 : a3 = a6 → ¬ a3 = (κ 11) → a3 = (κ 15) → ¬ a6 = (κ 11) → ¬ a6 = (κ 15) → n12 = n21 → Rn G mX8_isSame 30 [(0, .ref a1), (1, .ref a2), (2, .int 1), (3, .int 0)] [] w Q) (k30 : a3 = a6 → ¬ a3 = (κ 11) → a3 = (κ 15) → ¬ a6 = (κ 11) → a6 = (κ 15) → ¬ n12 = n19 → Rn G mX8_isSame 30 [(0, .ref a1), (1, .ref a2), (2, .int 0), (3, .int 0)] [] w Q) (k31 : a3 = a6 → ¬ a3 = (κ 11) → a3 = (κ 15) → ¬ a6 = (κ 11) → a6 = (κ 15) → n12 = n19 → Rn G mX8_isSame 30 [(0, .ref a1), (1, .ref a2), (2, .int 1), (3, .int 0)] [] w Q) : Ev G mX8_isSame [.ref a1, .ref a2] w Q := by
  show Rn G mX8_isSame 0 [(0, .ref a1), (1, .ref a2)] [] w Q
  refine r_aload_n 0 1 0 rfl rfl rfl ?_
  refine r_get (v := .ref a3) fl_X8_7_X8 1 4 rfl rfl o1 rfl ?_
  refine r_aload_n 2 5 1 rfl rfl rfl ?_
  refine r_get (v := .ref a6) fl_X8_7_X8 3 8 rfl rfl o2 rfl ?_
  refine r_acmp_ne (rx := (some a3)) (ry := (some a6)) 4 11 26 rfl rfl rfl rfl rfl (fun c1 => ?_) (fun c1 => ?_)
  · refine r_iconst 12 27 rfl rfl di_0 ?_
    refine r_istore_n (lv' := [(2, .int 0), (0, .ref a1), (1, .ref a2)]) 13 28 rfl rfl (Nat.le_of_ble_eq_true rfl) rfl ?_
    refine r_iconst 14 29 rfl rfl di_0 ?_
    refine r_istore_n (lv' := [(3, .int 0), (2, .int 0), (0, .ref a1), (1, .ref a2)]) 15 30 rfl rfl (Nat.le_of_ble_eq_true rfl) rfl ?_
    exact r_sub [2, 3, 1, 0] rfl (k3 (fun h => c1 (congrArg some h)))
  · refine r_aload_n 5 12 0 rfl rfl rfl ?_
    refine r_callV lkV_X8_54_X8 (C := RX8) (TT := TX8) (NN := 3) rfl o1 6 15 rfl rfl (by decide) [] rfl rfl (Nat.le_of_ble_eq_true rfl) (Nat.le_of_ble_eq_true rfl) (e_X8_size hS (o1 := o1) (o2 := o4) (o3 := o5) (o5 := o6) (k4 := fun z1_0 => ?_) (k6 := fun z1_0 => fun z1_1 => ?_) (k7 := fun z1_0 => fun z1_1 => ?_)) (fun _ _ h => h)
    · show Rn G mX8_isSame 15 [(0, .ref a1), (1, .ref a2)] [.int (nI n12)] w _
      refine r_aload_n 7 16 1 rfl rfl rfl ?_
      refine r_callV lkV_X8_54_X8 (C := RX8) (TT := TX8) (NN := 3) rfl o2 8 19 rfl rfl (by decide) [] rfl rfl (Nat.le_of_ble_eq_true rfl) (Nat.le_of_ble_eq_true rfl) (e_X8_size hS (o1 := o2) (o2 := o7) (o3 := o8) (o5 := o9) (k4 := fun z2_0 => ?_) (k6 := fun z2_0 => fun z2_1 => ?_) (k7 := fun z2_0 => fun z2_1 => ?_)) (fun _ _ h => h)
      · show Rn G mX8_isSame 19 [(0, .ref a1), (1, .ref a2)] [.int (nI n19), .int (nI n12)] w _
        refine y_icmp_ne (a := n12) (b := n19) bd10 bd11 9 22 26 rfl rfl rfl (fun c4 => ?_) (fun c4 => ?_)
        · refine r_iconst 12 27 rfl rfl di_0 ?_
          refine r_istore_n (lv' := [(2, .int 0), (0, .ref a1), (1, .ref a2)]) 13 28 rfl rfl (Nat.le_of_ble_eq_true rfl) rfl ?_
          refine r_iconst 14 29 rfl rfl di_0 ?_
          refine r_istore_n (lv' := [(3, .int 0), (2, .int 0), (0, .ref a1), (1, .ref a2)]) 15 30 rfl rfl (Nat.le_of_ble_eq_true rfl) rfl ?_
          exact r_sub [2, 3, 1, 0] rfl (k12 (Option.some.inj c1) z1_0 z2_0 c4)
        · refine r_iconst 10 23 rfl rfl di_1 ?_
          refine r_goto 11 27 rfl rfl ?_
          refine r_istore_n (lv' := [(2, .int 1), (0, .ref a1), (1, .ref a2)]) 13 28 rfl rfl (Nat.le_of_ble_eq_true rfl) rfl ?_
          refine r_iconst 14 29 rfl rfl di_0 ?_
          refine r_istore_n (lv' := [(3, .int 0), (2, .int 1), (0, .ref a1), (1, .ref a2)]) 15 30 rfl rfl (Nat.le_of_ble_eq_true rfl) rfl ?_
          exact r_sub [2, 3, 1, 0] rfl (k13 (Option.some.inj c1) z1_0 z2_0 c4)
      · show Rn G mX8_isSame 19 [(0, .ref a1), (1, .ref a2)] [.int (nI n21), .int (nI n12)] w _
        refine y_icmp_ne (a := n12) (b := n21) (by omega) bd14 9 22 26 rfl rfl rfl (fun c5 => ?_) (fun c5 => ?_)
        · refine r_iconst 12 27 rfl rfl di_0 ?_
          refine r_istore_n (lv' := [(2, .int 0), (0, .ref a1), (1, .ref a2)]) 13 28 rfl rfl (Nat.le_of_ble_eq_true rfl) rfl ?_
          refine r_iconst 14 29 rfl rfl di_0 ?_
          refine r_istore_n (lv' := [(3, .int 0), (2, .int 0), (0, .ref a1), (1, .ref a2)]) 15 30 rfl rfl (Nat.le_of_ble_eq_true rfl) rfl ?_
          exact r_sub [2, 3, 1, 0] rfl (k15 (Option.some.inj c1) z1_0 z2_0 z2_1 c5)
        · refine r_iconst 10 23 rfl rfl di_1 ?_
          refine r_goto 11 27 rfl rfl ?_
          refine r_istore_n (lv' := [(2, .int 1), (0, .ref a1), (1, .ref a2)]) 13 28 rfl rfl (Nat.le_of_ble_eq_true rfl) rfl ?_
          refine r_iconst 14 29 rfl rfl di_0 ?_
          refine r_istore_n (lv' := [(3, .int 0), (2, .int 1), (0, .ref a1), (1, .ref a2)]) 15 30 rfl rfl (Nat.le_of_ble_eq_true rfl) rfl ?_
          exact r_sub [2, 3, 1, 0] rfl (k16 (Option.some.inj c1) z1_0 z2_0 z2_1 c5)
      · show Rn G mX8_isSame 19 [(0, .ref a1), (1, .ref a2)] [.int (nI n19), .int (nI n12)] w _
        refine y_icmp_ne (a := n12) (b := n19) (by omega) (by omega) 9 22 26 rfl rfl rfl (fun c5 => ?_) (fun c5 => ?_)
        · refine r_iconst 12 27 rfl rfl di_0 ?_
          refine r_istore_n (lv' := [(2, .int 0), (0, .ref a1), (1, .ref a2)]) 13 28 rfl rfl (Nat.le_of_ble_eq_true rfl) rfl ?_
          refine r_iconst 14 29 rfl rfl di_0 ?_
          refine r_istore_n (lv' := [(3, .int 0), (2, .int 0), (0, .ref a1), (1, .ref a2)]) 15 30 rfl rfl (Nat.le_of_ble_eq_true rfl) rfl ?_
          exact r_sub [2, 3, 1, 0] rfl (k17 (Option.some.inj c1) z1_0 z2_0 z2_1 c5)
        · refine r_iconst 10 23 rfl rfl di_1 ?_
          refine r_goto 11 27 rfl rfl ?_
          refine r_istore_n (lv' := [(2, .int 1), (0, .ref a1), (1, .ref a2)]) 13 28 rfl rfl (Nat.le_of_ble_eq_true rfl) rfl ?_
          refine r_iconst 14 29 rfl rfl di_0 ?_
          refine r_istore_n (lv' := [(3, .int 0), (2, .int 1), (0, .ref a1), (1, .ref a2)]) 15 30 rfl rfl (Nat.le_of_ble_eq_true rfl) rfl ?_
          exact r_sub [2, 3, 1, 0] rfl (k18 (Option.some.inj c1) z1_0 z2_0 z2_1 c5)
    · show Rn G mX8_isSame 15 [(0, .ref a1), (1, .ref a2)] [.int (nI n14)] w _
      refine r_aload_n 7 16 1 rfl rfl rfl ?_
      refine r_callV lkV_X8_54_X8 (C := RX8) (TT := TX8) (NN := 3) rfl o2 8 19 rfl rfl (by decide) [] rfl rfl (Nat.le_of_ble_eq_true rfl) (Nat.le_of_ble_eq_true rfl) (e_X8_size hS (o1 := o2) (o2 := o7) (o3 := o8) (o5 := o9) (k4 := fun z3_0 => ?_) (k6 := fun z3_0 => fun z3_1 => ?_) (k7 := fun z3_0 => fun z3_1 => ?_)) (fun _ _ h => h)
      · show Rn G mX8_isSame 19 [(0, .ref a1), (1, .ref a2)] [.int (nI n19), .int (nI n14)] w _
        refine y_icmp_ne (a := n14) (b := n19) bd19 (by omega) 9 22 26 rfl rfl rfl (fun c5 => ?_) (fun c5 => ?_)
        · refine r_iconst 12 27 rfl rfl di_0 ?_
          refine r_istore_n (lv' := [(2, .int 0), (0, .ref a1), (1, .ref a2)]) 13 28 rfl rfl (Nat.le_of_ble_eq_true rfl) rfl ?_
          refine r_iconst 14 29 rfl rfl di_0 ?_
          refine r_istore_n (lv' := [(3, .int 0), (2, .int 0), (0, .ref a1), (1, .ref a2)]) 15 30 rfl rfl (Nat.le_of_ble_eq_true rfl) rfl ?_
          exact r_sub [2, 3, 1, 0] rfl (k20 (Option.some.inj c1) z1_0 z1_1 z3_0 c5)
        · refine r_iconst 10 23 rfl rfl di_1 ?_
          refine r_goto 11 27 rfl rfl ?_
          refine r_istore_n (lv' := [(2, .int 1), (0, .ref a1), (1, .ref a2)]) 13 28 rfl rfl (Nat.le_of_ble_eq_true rfl) rfl ?_
          refine r_iconst 14 29 rfl rfl di_0 ?_
          refine r_istore_n (lv' := [(3, .int 0), (2, .int 1), (0, .ref a1), (1, .ref a2)]) 15 30 rfl rfl (Nat.le_of_ble_eq_true rfl) rfl ?_
          exact r_sub [2, 3, 1, 0] rfl (k21 (Option.some.inj c1) z1_0 z1_1 z3_0 c5)
      · show Rn G mX8_isSame 19 [(0, .ref a1), (1, .ref a2)] [.int (nI n21), .int (nI n14)] w _
        refine y_icmp_ne (a := n14) (b := n21) (by omega) (by omega) 9 22 26 rfl rfl rfl (fun c6 => ?_) (fun c6 => ?_)
        · refine r_iconst 12 27 rfl rfl di_0 ?_
          refine r_istore_n (lv' := [(2, .int 0), (0, .ref a1), (1, .ref a2)]) 13 28 rfl rfl (Nat.le_of_ble_eq_true rfl) rfl ?_
          refine r_iconst 14 29 rfl rfl di_0 ?_
          refine r_istore_n (lv' := [(3, .int 0), (2, .int 0), (0, .ref a1), (1, .ref a2)]) 15 30 rfl rfl (Nat.le_of_ble_eq_true rfl) rfl ?_
          exact r_sub [2, 3, 1, 0] rfl (k22 (Option.some.inj c1) z1_0 z1_1 z3_0 z3_1 c6)
        · refine r_iconst 10 23 rfl rfl di_1 ?_
          refine r_goto 11 27 rfl rfl ?_
          refine r_istore_n (lv' := [(2, .int 1), (0, .ref a1), (1, .ref a2)]) 13 28 rfl rfl (Nat.le_of_ble_eq_true rfl) rfl ?_
          refine r_iconst 14 29 rfl rfl di_0 ?_
          refine r_istore_n (lv' := [(3, .int 0), (2, .int 1), (0, .ref a1), (1, .ref a2)]) 15 30 rfl rfl (Nat.le_of_ble_eq_true rfl) rfl ?_
          exact r_sub [2, 3, 1, 0] rfl (k23 (Option.some.inj c1) z1_0 z1_1 z3_0 z3_1 c6)
      · show Rn G mX8_isSame 19 [(0, .ref a1), (1, .ref a2)] [.int (nI n19), .int (nI n14)] w _
        refine y_icmp_ne (a := n14) (b := n19) (by omega) (by omega) 9 22 26 rfl rfl rfl (fun c6 => ?_) (fun c6 => ?_)
        · refine r_iconst 12 27 rfl rfl di_0 ?_
          refine r_istore_n (lv' := [(2, .int 0), (0, .ref a1), (1, .ref a2)]) 13 28 rfl rfl (Nat.le_of_ble_eq_true rfl) rfl ?_
          refine r_iconst 14 29 rfl rfl di_0 ?_
          refine r_istore_n (lv' := [(3, .int 0), (2, .int 0), (0, .ref a1), (1, .ref a2)]) 15 30 rfl rfl (Nat.le_of_ble_eq_true rfl) rfl ?_
          exact r_sub [2, 3, 1, 0] rfl (k24 (Option.some.inj c1) z1_0 z1_1 z3_0 z3_1 c6)
        · refine r_iconst 10 23 rfl rfl di_1 ?_
          refine r_goto 11 27 rfl rfl ?_
          refine r_istore_n (lv' := [(2, .int 1), (0, .ref a1), (1, .ref a2)]) 13 28 rfl rfl (Nat.le_of_ble_eq_true rfl) rfl ?_
          refine r_iconst 14 29 rfl rfl di_0 ?_
          refine r_istore_n (lv' := [(3, .int 0), (2, .int 1), (0, .ref a1), (1, .ref a2)]) 15 30 rfl rfl (Nat.le_of_ble_eq_true rfl) rfl ?_
          exact r_sub [2, 3, 1, 0] rfl (k25 (Option.some.inj c1) z1_0 z1_1 z3_0 z3_1 c6)
    · show Rn G mX8_isSame 15 [(0, .ref a1), (1, .ref a2)] [.int (nI n12)] w _
      refine r_aload_n 7 16 1 rfl rfl rfl ?_
      refine r_callV lkV_X8_54_X8 (C := RX8) (TT := TX8) (NN := 3) rfl o2 8 19 rfl rfl (by decide) [] rfl rfl (Nat.le_of_ble_eq_true rfl) (Nat.le_of_ble_eq_true rfl) (e_X8_size hS (o1 := o2) (o2 := o7) (o3 := o8) (o5 := o9) (k4 := fun z3_0 => ?_) (k6 := fun z3_0 => fun z3_1 => ?_) (k7 := fun z3_0 => fun z3_1 => ?_)) (fun _ _ h => h)
      · show Rn G mX8_isSame 19 [(0, .ref a1), (1, .ref a2)] [.int (nI n19), .int (nI n12)] w _
        refine y_icmp_ne (a := n12) (b := n19) (by omega) (by omega) 9 22 26 rfl rfl rfl (fun c5 => ?_) (fun c5 => ?_)
        · refine r_iconst 12 27 rfl rfl di_0 ?_
          refine r_istore_n (lv' := [(2, .int 0), (0, .ref a1), (1, .ref a2)]) 13 28 rfl rfl (Nat.le_of_ble_eq_true rfl) rfl ?_
          refine r_iconst 14 29 rfl rfl di_0 ?_
          refine r_istore_n (lv' := [(3, .int 0), (2, .int 0), (0, .ref a1), (1, .ref a2)]) 15 30 rfl rfl (Nat.le_of_ble_eq_true rfl) rfl ?_
          exact r_sub [2, 3, 1, 0] rfl (k26 (Option.some.inj c1) z1_0 z1_1 z3_0 c5)
        · refine r_iconst 10 23 rfl rfl di_1 ?_
          refine r_goto 11 27 rfl rfl ?_
          refine r_istore_n (lv' := [(2, .int 1), (0, .ref a1), (1, .ref a2)]) 13 28 rfl rfl (Nat.le_of_ble_eq_true rfl) rfl ?_
          refine r_iconst 14 29 rfl rfl di_0 ?_
          refine r_istore_n (lv' := [(3, .int 0), (2, .int 1), (0, .ref a1), (1, .ref a2)]) 15 30 rfl rfl (Nat.le_of_ble_eq_true rfl) rfl ?_
          exact r_sub [2, 3, 1, 0] rfl (k27 (Option.some.inj c1) z1_0 z1_1 z3_0 c5)
      · show Rn G mX8_isSame 19 [(0, .ref a1), (1, .ref a2)] [.int (nI n21), .int (nI n12)] w _
        refine y_icmp_ne (a := n12) (b := n21) (by omega) (by omega) 9 22 26 rfl rfl rfl (fun c6 => ?_) (fun c6 => ?_)
        · refine r_iconst 12 27 rfl rfl di_0 ?_
          refine r_istore_n (lv' := [(2, .int 0), (0, .ref a1), (1, .ref a2)]) 13 28 rfl rfl (Nat.le_of_ble_eq_true rfl) rfl ?_
          refine r_iconst 14 29 rfl rfl di_0 ?_
          refine r_istore_n (lv' := [(3, .int 0), (2, .int 0), (0, .ref a1), (1, .ref a2)]) 15 30 rfl rfl (Nat.le_of_ble_eq_true rfl) rfl ?_
          exact r_sub [2, 3, 1, 0] rfl (k28 (Option.some.inj c1) z1_0 z1_1 z3_0 z3_1 c6)
        · refine r_iconst 10 23 rfl rfl di_1 ?_
          refine r_goto 11 27 rfl rfl ?_
          refine r_istore_n (lv' := [(2, .int 1), (0, .ref a1), (1, .ref a2)]) 13 28 rfl rfl (Nat.le_of_ble_eq_true rfl) rfl ?_
          refine r_iconst 14 29 rfl rfl di_0 ?_
          refine r_istore_n (lv' := [(3, .int 0), (2, .int 1), (0, .ref a1), (1, .ref a2)]) 15 30 rfl rfl (Nat.le_of_ble_eq_true rfl) rfl ?_
          exact r_sub [2, 3, 1, 0] rfl (k29 (Option.some.inj c1) z1_0 z1_1 z3_0 z3_1 c6)
      · show Rn G mX8_isSame 19 [(0, .ref a1), (1, .ref a2)] [.int (nI n19), .int (nI n12)] w _
        refine y_icmp_ne (a := n12) (b := n19) (by omega) (by omega) 9 22 26 rfl rfl rfl (fun c6 => ?_) (fun c6 => ?_)
        · refine r_iconst 12 27 rfl rfl di_0 ?_
          refine r_istore_n (lv' := [(2, .int 0), (0, .ref a1), (1, .ref a2)]) 13 28 rfl rfl (Nat.le_of_ble_eq_true rfl) rfl ?_
          refine r_iconst 14 29 rfl rfl di_0 ?_
          refine r_istore_n (lv' := [(3, .int 0), (2, .int 0), (0, .ref a1), (1, .ref a2)]) 15 30 rfl rfl (Nat.le_of_ble_eq_true rfl) rfl ?_
          exact r_sub [2, 3, 1, 0] rfl (k30 (Option.some.inj c1) z1_0 z1_1 z3_0 z3_1 c6)
        · refine r_iconst 10 23 rfl rfl di_1 ?_
          refine r_goto 11 27 rfl rfl ?_
          refine r_istore_n (lv' := [(2, .int 1), (0, .ref a1), (1, .ref a2)]) 13 28 rfl rfl (Nat.le_of_ble_eq_true rfl) rfl ?_
          refine r_iconst 14 29 rfl rfl di_0 ?_
          refine r_istore_n (lv' := [(3, .int 0), (2, .int 1), (0, .ref a1), (1, .ref a2)]) 15 30 rfl rfl (Nat.le_of_ble_eq_true rfl) rfl ?_
          exact r_sub [2, 3, 1, 0] rfl (k31 (Option.some.inj c1) z1_0 z1_1 z3_0 z3_1 c6)
theorem e_X8_isSame_30 {G : Gm} {κ : Nat → Nat} {φ : Nat → Option Nat} (hS : GS G κ φ) {w : Wd} {Q : Rs → Wd → Prop} {a1 : Nat} {a2 : Nat} {x3 : Int32} {m4 : Nat} {a5 : Nat} {a6 : Nat} {a7 : Nat} {a8 : Nat} {x9 : Int32} {x10 : Int32} {n11 : Nat} {g12 : Nat → Nat} {n13 : Nat} {g14 : Nat → Int32} {a15 : Nat} {a16 : Nat} {a17 : Nat} {a18 : Nat} {x19 : Int32} {x20 : Int32} {n21 : Nat} {g22 : Nat → Nat} {n23 : Nat} {g24 : Nat → Int32} (q1 : x3 = 0 → narrow .boolean (.int x3) = .int x3) (k2 : x3 = 0 → Q (.inl (some (.int x3))) w) (o3 : Lk G w a1 (.inl (nX8, [.ref a5, .ref a6, .ref a7]))) (o4 : Lk G w a6 (.inl (nJ2, [.ref a8, .int 0, .int x9, .int x10]))) (o5 : Lk G w a8 (arB n11 g12)) (o6 : Lk G w a7 (arI .int n13 g14)) (bd7 : m4 < 2 ^ 31) (bd8 : n11 < 2 ^ 31) (q9 : ¬ x3 = 0 → a5 = (κ 11) → n11 ≤ m4 → narrow .boolean (.int x3) = .int x3) (k10 : ¬ x3 = 0 → a5 = (κ 11) → n11 ≤ m4 → Q (.inl (some (.int x3))) w) (b11 : ¬ x3 = 0 → a5 = (κ 11) → ¬ n11 ≤ m4 → a5 = (κ 11) → m4 < 2 ^ 31) (b12 : ¬ x3 = 0 → a5 = (κ 11) → ¬ n11 ≤ m4 → a5 = (κ 11) → n11 < 2 ^ 31) (f13 : ¬ x3 = 0 → a5 = (κ 11) → ¬ n11 ≤ m4 → a5 = (κ 11) → m4 < n11) (q14 : ¬ x3 = 0 → a5 = (κ 11) → ¬ n11 ≤ m4 → a5 = (κ 11) → (g12 m4) < 128) (b15 : ¬ x3 = 0 → a5 = (κ 11) → ¬ n11 ≤ m4 → ¬ a5 = (κ 11) → ¬ a5 = (κ 15) → m4 < n13) (b16 : ¬ x3 = 0 → a5 = (κ 11) → ¬ n11 ≤ m4 → n13 < 2 ^ 31) (b17 : ¬ x3 = 0 → a5 = (κ 11) → ¬ n11 ≤ m4 → ¬ a5 = (κ 11) → a5 = (κ 15) → m4 < 2 ^ 31) (b18 : ¬ x3 = 0 → a5 = (κ 11) → ¬ n11 ≤ m4 → ¬ a5 = (κ 11) → a5 = (κ 15) → n11 < 2 ^ 31) (f19 : ¬ x3 = 0 → a5 = (κ 11) → ¬ n11 ≤ m4 → ¬ a5 = (κ 11) → a5 = (κ 15) → m4 < n11) (q20 : ¬ x3 = 0 → a5 = (κ 11) → ¬ n11 ≤ m4 → ¬ a5 = (κ 11) → a5 = (κ 15) → (g12 m4) < 128) (o21 : Lk G w a2 (.inl (nX8, [.ref a15, .ref a16, .ref a17]))) (o22 : Lk G w a16 (.inl (nJ2, [.ref a18, .int 0, .int x19, .int x20]))) (o23 : Lk G w a18 (arB n21 g22)) (o24 : Lk G w a17 (arI .int n23 g24)) (b25 : ¬ x3 = 0 → a5 = (κ 11) → ¬ n11 ≤ m4 → a5 = (κ 11) → a15 = (κ 11) → m4 < 2 ^ 31) (b26 : ¬ x3 = 0 → a5 = (κ 11) → ¬ n11 ≤ m4 → a5 = (κ 11) → a15 = (κ 11) → n21 < 2 ^ 31) (f27 : ¬ x3 = 0 → a5 = (κ 11) → ¬ n11 ≤ m4 → a5 = (κ 11) → a15 = (κ 11) → m4 < n21) (q28 : ¬ x3 = 0 → a5 = (κ 11) → ¬ n11 ≤ m4 → a5 = (κ 11) → a15 = (κ 11) → (g22 m4) < 128) (b29 : ¬ x3 = 0 → a5 = (κ 11) → ¬ n11 ≤ m4 → a5 = (κ 11) → ¬ a15 = (κ 11) → ¬ a15 = (κ 15) → m4 < n23) (b30 : ¬ x3 = 0 → a5 = (κ 11) → ¬ n11 ≤ m4 → a5 = (κ 11) → n23 < 2 ^ 31) (b31 : ¬ x3 = 0 → a5 = (κ 11) → ¬ n11 ≤ m4 → a5 = (κ 11) → ¬ a15 = (κ 11) → a15 = (κ 15) → m4 < 2 ^ 31) (b32 : ¬ x3 = 0 → a5 = (κ 11) → ¬ n11 ≤ m4 → a5 = (κ 11) → ¬ a15 = (κ 11) → a15 = (κ 15) → n21 < 2 ^ 31) (f33 : ¬ x3 = 0 → a5 = (κ 11) → ¬ n11 ≤ m4 → a5 = (κ 11) → ¬ a15 = (κ 11) → a15 = (κ 15) → m4 < n21) (q34 : ¬ x3 = 0 → a5 = (κ 11) → ¬ n11 ≤ m4 → a5 = (κ 11) → ¬ a15 = (κ 11) → a15 = (κ 15) → (g22 m4) < 128) (bd35 : (g12 m4) < 2 ^ 31) (bd36 : (g22 m4) < 2 ^ 31) (k37 : ¬ x3 = 0 → a5 = (κ 11) → ¬ n11 ≤ m4 → a5 = (κ 11) → a15 = (κ 11) → ¬ (g12 m4) = (g22 m4) → Rn G mX8_isSame 30 [(0, .ref a1), (1, .ref a2), (2, .int 0), (3, .int (nI (m4 + 1)))] [] w Q) (k38 : ¬ x3 = 0 → a5 = (κ 11) → ¬ n11 ≤ m4 → a5 = (κ 11) → a15 = (κ 11) → (g12 m4) = (g22 m4) → Rn G mX8_isSame 30 [(0, .ref a1), (1, .ref a2), (2, .int 1), (3, .int (nI (m4 + 1)))] [] w Q) (k39 : ¬ x3 = 0 → a5 = (κ 11) → ¬ n11 ≤ m4 → a5 = (κ 11) → ¬ a15 = (κ 11) → ¬ a15 = (κ 15) → ¬ (nI (g12 m4)) = (g24 m4) → Rn G mX8_isSame 30 [(0, .ref a1), (1, .ref a2), (2, .int 0), (3, .int (nI (m4 + 1)))] [] w Q) (k40 : ¬ x3 = 0 → a5 = (κ 11) → ¬ n11 ≤ m4 → a5 = (κ 11) → ¬ a15 = (κ 11) → ¬ a15 = (κ 15) → (nI (g12 m4)) = (g24 m4) → Rn G mX8_isSame 30 [(0, .ref a1), (1, .ref a2), (2, .int 1), (3, .int (nI (m4 + 1)))] [] w Q) (k41 : ¬ x3 = 0 → a5 = (κ 11) → ¬ n11 ≤ m4 → a5 = (κ 11) → ¬ a15 = (κ 11) → a15 = (κ 15) → ¬ (g12 m4) = (g22 m4) → Rn G mX8_isSame 30 [(0, .ref a1), (1, .ref a2), (2, .int 0), (3, .int (nI (m4 + 1)))] [] w Q) (k42 : ¬ x3 = 0 → a5 = (κ 11) → ¬ n11 ≤ m4 → a5 = (κ 11) → ¬ a15 = (κ 11) → a15 = (κ 15) → (g12 m4) = (g22 m4) → Rn G mX8_isSame 30 [(0, .ref a1), (1, .ref a2), (2, .int 1), (3, .int (nI (m4 + 1)))] [] w Q) (b43 : ¬ x3 = 0 → a5 = (κ 11) → ¬ n11 ≤ m4 → ¬ a5 = (κ 11) → ¬ a5 = (κ 15) → a15 = (κ 11) → m4 < 2 ^ 31) (b44 : ¬ x3 = 0 → a5 = (κ 11) → ¬ n11 ≤ m4 → ¬ a5 = (κ 11) → ¬ a5 = (κ 15) → a15 = (κ 11) → n21 < 2 ^ 31) (f45 : ¬ x3 = 0 → a5 = (κ 11) → ¬ n11 ≤ m4 → ¬ a5 = (κ 11) → ¬ a5 = (κ 15) → a15 = (κ 11) → m4 < n21) (q46 : ¬ x3 = 0 → a5 = (κ 11) → ¬ n11 ≤ m4 → ¬ a5 = (κ 11) → ¬ a5 = (κ 15) → a15 = (κ 11) → (g22 m4) < 128) (b47 : ¬ x3 = 0 → a5 = (κ 11) → ¬ n11 ≤ m4 → ¬ a5 = (κ 11) → ¬ a5 = (κ 15) → ¬ a15 = (κ 11) → ¬ a15 = (κ 15) → m4 < n23) (b48 : ¬ x3 = 0 → a5 = (κ 11) → ¬ n11 ≤ m4 → ¬ a5 = (κ 11) → ¬ a5 = (κ 15) → n23 < 2 ^ 31) (b49 : ¬ x3 = 0 → a5 = (κ 11) → ¬ n11 ≤ m4 → ¬ a5 = (κ 11) → ¬ a5 = (κ 15) → ¬ a15 = (κ 11) → a15 = (κ 15) → m4 < 2 ^ 31) (b50 : ¬ x3 = 0 → a5 = (κ 11) → ¬ n11 ≤ m4 → ¬ a5 = (κ 11) → ¬ a5 = (κ 15) → ¬ a15 = (κ 11) → a15 = (κ 15) → n21 < 2 ^ 31) (f51 : ¬ x3 = 0 → a5 = (κ 11) → ¬ n11 ≤ m4 → ¬ a5 = (κ 11) → ¬ a5 = (κ 15) → ¬ a15 = (κ 11) → a15 = (κ 15) → m4 < n21) (q52 : ¬ x3 = 0 → a5 = (κ 11) → ¬ n11 ≤ m4 → ¬ a5 = (κ 11) → ¬ a5 = (κ 15) → ¬ a15 = (κ 11) → a15 = (κ 15) → (g22 m4) < 128) (k53 : ¬ x3 = 0 → a5 = (κ 11) → ¬ n11 ≤ m4 → ¬ a5 = (κ 11) → ¬ a5 = (κ 15) → a15 = (κ 11) → ¬ (g14 m4) = (nI (g22 m4)) → Rn G mX8_isSame 30 [(0, .ref a1), (1, .ref a2), (2, .int 0), (3, .int (nI (m4 + 1)))] [] w Q) (k54 : ¬ x3 = 0 → a5 = (κ 11) → ¬ n11 ≤ m4 → ¬ a5 = (κ 11) → ¬ a5 = (κ 15) → a15 = (κ 11) → (g14 m4) = (nI (g22 m4)) → Rn G mX8_isSame 30 [(0, .ref a1), (1, .ref a2), (2, .int 1), (3, .int (nI (m4 + 1)))] [] w Q) (k55 : ¬ x3 = 0 → a5 = (κ 11) → ¬ n11 ≤ m4 → ¬ a5 = (κ 11) → ¬ a5 = (κ 15) → ¬ a15 = (κ 11) → ¬ a15 = (κ 15) → ¬ (g14 m4) = (g24 m4) → Rn G mX8_isSame 30 [(0, .ref a1), (1, .ref a2), (2, .int 0), (3, .int (nI (m4 + 1)))] [] w Q) (k56 : ¬ x3 = 0 → a5 = (κ 11) → ¬ n11 ≤ m4 → ¬ a5 = (κ 11) → ¬ a5 = (κ 15) → ¬ a15 = (κ 11) → ¬ a15 = (κ 15) → (g14 m4) = (g24 m4) → Rn G mX8_isSame 30 [(0, .ref a1), (1, .ref a2), (2, .int 1), (3, .int (nI (m4 + 1)))] [] w Q) (k57 : ¬ x3 = 0 → a5 = (κ 11) → ¬ n11 ≤ m4 → ¬ a5 = (κ 11) → ¬ a5 = (κ 15) → ¬ a15 = (κ 11) → a15 = (κ 15) → ¬ (g14 m4) = (nI (g22 m4)) → Rn G mX8_isSame 30 [(0, .ref a1), (1, .ref a2), (2, .int 0), (3, .int (nI (m4 + 1)))] [] w Q) (k58 : ¬ x3 = 0 → a5 = (κ 11) → ¬ n11 ≤ m4 → ¬ a5 = (κ 11) → ¬ a5 = (κ 15) → ¬ a15 = (κ 11) → a15 = (κ 15) → (g14 m4) = (nI (g22 m4)) → Rn G mX8_isSame 30 [(0, .ref a1), (1, .ref a2), (2, .int 1), (3, .int (nI (m4 + 1)))] [] w Q) (b59 : ¬ x3 = 0 → a5 = (κ 11) → ¬ n11 ≤ m4 → ¬ a5 = (κ 11) → a5 = (κ 15) → a15 = (κ 11) → m4 < 2 ^ 31) (b60 : ¬ x3 = 0 → a5 = (κ 11) → ¬ n11 ≤ m4 → ¬ a5 = (κ 11) → a5 = (κ 15) → a15 = (κ 11) → n21 < 2 ^ 31) (f61 : ¬ x3 = 0 → a5 = (κ 11) → ¬ n11 ≤ m4 → ¬ a5 = (κ 11) → a5 = (κ 15) → a15 = (κ 11) → m4 < n21) (q62 : ¬ x3 = 0 → a5 = (κ 11) → ¬ n11 ≤ m4 → ¬ a5 = (κ 11) → a5 = (κ 15) → a15 = (κ 11) → (g22 m4) < 128) (b63 : ¬ x3 = 0 → a5 = (κ 11) → ¬ n11 ≤ m4 → ¬ a5 = (κ 11) → a5 = (κ 15) → ¬ a15 = (κ 11) → ¬ a15 = (κ 15) → m4 < n23) (b64 : ¬ x3 = 0 → a5 = (κ 11) → ¬ n11 ≤ m4 → ¬ a5 = (κ 11) → a5 = (κ 15) → n23 < 2 ^ 31) (b65 : ¬ x3 = 0 → a5 = (κ 11) → ¬ n11 ≤ m4 → ¬ a5 = (κ 11) → a5 = (κ 15) → ¬ a15 = (κ 11) → a15 = (κ 15) → m4 < 2 ^ 31) (b66 : ¬ x3 = 0 → a5 = (κ 11) → ¬ n11 ≤ m4 → ¬ a5 = (κ 11) → a5 = (κ 15) → ¬ a15 = (κ 11) → a15 = (κ 15) → n21 < 2 ^ 31) (f67 : ¬ x3 = 0 → a5 = (κ 11) → ¬ n11 ≤ m4 → ¬ a5 = (κ 11) → a5 = (κ 15) → ¬ a15 = (κ 11) → a15 = (κ 15) → m4 < n21) (q68 : ¬ x3 = 0 → a5 = (κ 11) → ¬ n11 ≤ m4 → ¬ a5 = (κ 11) → a5 = (κ 15) → ¬ a15 = (κ 11) → a15 = (κ 15) → (g22 m4) < 128) (k69 : ¬ x3 = 0 → a5 = (κ 11) → ¬ n11 ≤ m4 → ¬ a5 = (κ 11) → a5 = (κ 15) → a15 = (κ 11) → ¬ (g12 m4) = (g22 m4) → Rn G mX8_isSame 30 [(0, .ref a1), (1, .ref a2), (2, .int 0), (3, .int (nI (m4 + 1)))] [] w Q) (k70 : ¬ x3 = 0 → a5 = (κ 11) → ¬ n11 ≤ m4 → ¬ a5 = (κ 11) → a5 = (κ 15) → a15 = (κ 11) → (g12 m4) = (g22 m4) → Rn G mX8_isSame 30 [(0, .ref a1), (1, .ref a2), (2, .int 1), (3, .int (nI (m4 + 1)))] [] w Q) (k71 : ¬ x3 = 0 → a5 = (κ 11) → ¬ n11 ≤ m4 → ¬ a5 = (κ 11) → a5 = (κ 15) → ¬ a15 = (κ 11) → ¬ a15 = (κ 15) → ¬ (nI (g12 m4)) = (g24 m4) → Rn G mX8_isSame 30 [(0, .ref a1), (1, .ref a2), (2, .int 0), (3, .int (nI (m4 + 1)))] [] w Q) (k72 : ¬ x3 = 0 → a5 = (κ 11) → ¬ n11 ≤ m4 → ¬ a5 = (κ 11) → a5 = (κ 15) → ¬ a15 = (κ 11) → ¬ a15 = (κ 15) → (nI (g12 m4)) = (g24 m4) → Rn G mX8_isSame 30 [(0, .ref a1), (1, .ref a2), (2, .int 1), (3, .int (nI (m4 + 1)))] [] w Q) (k73 : ¬ x3 = 0 → a5 = (κ 11) → ¬ n11 ≤ m4 → ¬ a5 = (κ 11) → a5 = (κ 15) → ¬ a15 = (κ 11) → a15 = (κ 15) → ¬ (g12 m4) = (g22 m4) → Rn G mX8_isSame 30 [(0, .ref a1), (1, .ref a2), (2, .int 0), (3, .int (nI (m4 + 1)))] [] w Q) (k74 : ¬ x3 = 0 → a5 = (κ 11) → ¬ n11 ≤ m4 → ¬ a5 = (κ 11) → a5 = (κ 15) → ¬ a15 = (κ 11) → a15 = (κ 15) → (g12 m4) = (g22 m4) → Rn G mX8_isSame 30 [(0, .ref a1), (1, .ref a2), (2, .int 1), (3, .int (nI (m4 + 1)))] [] w Q) (bd75 : n13 < 2 ^ 31) (q76 : ¬ x3 = 0 → ¬ a5 = (κ 11) → ¬ a5 = (κ 15) → n13 ≤ m4 → narrow .boolean (.int x3) = .int x3) (k77 : ¬ x3 = 0 → ¬ a5 = (κ 11) → ¬ a5 = (κ 15) → n13 ≤ m4 → Q (.inl (some (.int x3))) w) (b78 : ¬ x3 = 0 → ¬ a5 = (κ 11) → ¬ a5 = (κ 15) → ¬ n13 ≤ m4 → a5 = (κ 11) → m4 < 2 ^ 31) (b79 : ¬ x3 = 0 → ¬ a5 = (κ 11) → ¬ a5 = (κ 15) → ¬ n13 ≤ m4 → a5 = (κ 11) → n11 < 2 ^ 31) (f80 : ¬ x3 = 0 → ¬ a5 = (κ 11) → ¬ a5 = (κ 15) → ¬ n13 ≤ m4 → a5 = (κ 11) → m4 < n11) (q81 : ¬ x3 = 0 → ¬ a5 = (κ 11) → ¬ a5 = (κ 15) → ¬ n13 ≤ m4 → a5 = (κ 11) → (g12 m4) < 128) (b82 : ¬ x3 = 0 → ¬ a5 = (κ 11) → ¬ a5 = (κ 15) → ¬ n13 ≤ m4 → ¬ a5 = (κ 11) → ¬ a5 = (κ 15) → m4 < n13) (b83 : ¬ x3 = 0 → ¬ a5 = (κ 11) → ¬ a5 = (κ 15) → ¬ n13 ≤ m4 → ¬ a5 = (κ 11) → a5 = (κ 15) → m4 < 2 ^ 31) (b84 : ¬ x3 = 0 → ¬ a5 = (κ 11) → ¬ a5 = (κ 15) → ¬ n13 ≤ m4 → ¬ a5 = (κ 11) → a5 = (κ 15) → n11 < 2 ^ 31) (f85 : ¬ x3 = 0 → ¬ a5 = (κ 11) → ¬ a5 = (κ 15) → ¬ n13 ≤ m4 → ¬ a5 = (κ 11) → a5 = (κ 15) → m4 < n11) (q86 : ¬ x3 = 0 → ¬ a5 = (κ 11) → ¬ a5 = (κ 15) → ¬ n13 ≤ m4 → ¬ a5 = (κ 11) → a5 = (κ 15) → (g12 m4) < 128) (b87 : ¬ x3 = 0 → ¬ a5 = (κ 11) → ¬ a5 = (κ 15) → ¬ n13 ≤ m4 → a5 = (κ 11) → a15 = (κ 11) → m4 < 2 ^ 31) (b88 : ¬ x3 = 0 → ¬ a5 = (κ 11) → ¬ a5 = (κ 15) → ¬ n13 ≤ m4 → a5 = (κ 11) → a15 = (κ 11) → n21 < 2 ^ 31) (f89 : ¬ x3 = 0 → ¬ a5 = (κ 11) → ¬ a5 = (κ 15) → ¬ n13 ≤ m4 → a5 = (κ 11) → a15 = (κ 11) → m4 < n21) (q90 : ¬ x3 = 0 → ¬ a5 = (κ 11) → ¬ a5 = (κ 15) → ¬ n13 ≤ m4 → a5 = (κ 11) → a15 = (κ 11) → (g22 m4) < 128) (b91 : ¬ x3 = 0 → ¬ a5 = (κ 11) → ¬ a5 = (κ 15) → ¬ n13 ≤ m4 → a5 = (κ 11) → ¬ a15 = (κ 11) → ¬ a15 = (κ 15) → m4 < n23) (b92 : ¬ x3 = 0 → ¬ a5 = (κ 11) → ¬ a5 = (κ 15) → ¬ n13 ≤ m4 → a5 = (κ 11) → n23 < 2 ^ 31) (b93 : ¬ x3 = 0 → ¬ a5 = (κ 11) → ¬ a5 = (κ 15) → ¬ n13 ≤ m4 → a5 = (κ 11) → ¬ a15 = (κ 11) → a15 = (κ 15) → m4 < 2 ^ 31) (b94 : ¬ x3 = 0 → ¬ a5 = (κ 11) → ¬ a5 = (κ 15) → ¬ n13 ≤ m4 → a5 = (κ 11) → ¬ a15 = (κ 11) → a15 = (κ 15) → n21 < 2 ^ 31) (f95 : ¬ x3 = 0 → ¬ a5 = (κ 11) → ¬ a5 = (κ 15) → ¬ n13 ≤ m4 → a5 = (κ 11) → ¬ a15 = (κ 11) → a15 = (κ 15) → m4 < n21) (q96 : ¬ x3 = 0 → ¬ a5 = (κ 11) → ¬ a5 = (κ 15) → ¬ n13 ≤ m4 → a5 = (κ 11) → ¬ a15 = (κ 11) → a15 = (κ 15) → (g22 m4) < 128) (k97 : ¬ x3 = 0 → ¬ a5 = (κ 11) → ¬ a5 = (κ 15) → ¬ n13 ≤ m4 → a5 = (κ 11) → a15 = (κ 11) → ¬ (g12 m4) = (g22 m4) → Rn G mX8_isSame 30 [(0, .ref a1), (1, .ref a2), (2, .int 0), (3, .int (nI (m4 + 1)))] [] w Q) (k98 : ¬ x3 = 0 → ¬ a5 = (κ 11) → ¬ a5 = (κ 15) → ¬ n13 ≤ m4 → a5 = (κ 11) → a15 = (κ 11) → (g12 m4) = (g22 m4) → Rn G mX8_isSame 30 [(0, .ref a1), (1, .ref a2), (2, .int 1), (3, .int (nI (m4 + 1)))] [] w Q) (k99 : ¬ x3 = 0 → ¬ a5 = (κ 11) → ¬ a5 = (κ 15) → ¬ n13 ≤ m4 → a5 = (κ 11) → ¬ a15 = (κ 11) → ¬ a15 = (κ 15) → ¬ (nI (g12 m4)) = (g24 m4) → Rn G mX8_isSame 30 [(0, .ref a1), (1, .ref a2), (2, .int 0), (3, .int (nI (m4 + 1)))] [] w Q) (k100 : ¬ x3 = 0 → ¬ a5 = (κ 11) → ¬ a5 = (κ 15) → ¬ n13 ≤ m4 → a5 = (κ 11) → ¬ a15 = (κ 11) → ¬ a15 = (κ 15) → (nI (g12 m4)) = (g24 m4) → Rn G mX8_isSame 30 [(0, .ref a1), (1, .ref a2), (2, .int 1), (3, .int (nI (m4 + 1)))] [] w Q) (k101 : ¬ x3 = 0 → ¬ a5 = (κ 11) → ¬ a5 = (κ 15) → ¬ n13 ≤ m4 → a5 = (κ 11) → ¬ a15 = (κ 11) → a15 = (κ 15) → ¬ (g12 m4) = (g22 m4) → Rn G mX8_isSame 30 [(0, .ref a1), (1, .ref a2), (2, .int 0), (3, .int (nI (m4 + 1)))] [] w Q) (k102 : ¬ x3 = 0 → ¬ a5 = (κ 11) → ¬ a5 = (κ 15) → ¬ n13 ≤ m4 → a5 = (κ 11) → ¬ a15 = (κ 11) → a15 = (κ 15) → (g12 m4) = (g22 m4) → Rn G mX8_isSame 30 [(0, .ref a1), (1, .ref a2), (2, .int 1), (3, .int (nI (m4 + 1)))] [] w Q) (b103 : ¬ x3 = 0 → ¬ a5 = (κ 11) → ¬ a5 = (κ 15) → ¬ n13 ≤ m4 → ¬ a5 = (κ 11) → ¬ a5 = (κ 15) → a15 = (κ 11) → m4 < 2 ^ 31) (b104 : ¬ x3 = 0 → ¬ a5 = (κ 11) → ¬ a5 = (κ 15) → ¬ n13 ≤ m4 → ¬ a5 = (κ 11) → ¬ a5 = (κ 15) → a15 = (κ 11) → n21 < 2 ^ 31) (f105 : ¬ x3 = 0 → ¬ a5 = (κ 11) → ¬ a5 = (κ 15) → ¬ n13 ≤ m4 → ¬ a5 = (κ 11) → ¬ a5 = (κ 15) → a15 = (κ 11) → m4 < n21) (q106 : ¬ x3 = 0 → ¬ a5 = (κ 11) → ¬ a5 = (κ 15) → ¬ n13 ≤ m4 → ¬ a5 = (κ 11) → ¬ a5 = (κ 15) → a15 = (κ 11) → (g22 m4) < 128) (b107 : ¬ x3 = 0 → ¬ a5 = (κ 11) → ¬ a5 = (κ 15) → ¬ n13 ≤ m4 → ¬ a5 = (κ 11) → ¬ a5 = (κ 15) → ¬ a15 = (κ 11) → ¬ a15 = (κ 15) → m4 < n23) (b108 : ¬ x3 = 0 → ¬ a5 = (κ 11) → ¬ a5 = (κ 15) → ¬ n13 ≤ m4 → ¬ a5 = (κ 11) → ¬ a5 = (κ 15) → n23 < 2 ^ 31) (b109 : ¬ x3 = 0 → ¬ a5 = (κ 11) → ¬ a5 = (κ 15) → ¬ n13 ≤ m4 → ¬ a5 = (κ 11) → ¬ a5 = (κ 15) → ¬ a15 = (κ 11) → a15 = (κ 15) → m4 < 2 ^ 31) (b110 : ¬ x3 = 0 → ¬ a5 = (κ 11) → ¬ a5 = (κ 15) → ¬ n13 ≤ m4 → ¬ a5 = (κ 11) → ¬ a5 = (κ 15) → ¬ a15 = (κ 11) → a15 = (κ 15) → n21 < 2 ^ 31) (f111 : ¬ x3 = 0 → ¬ a5 = (κ 11) → ¬ a5 = (κ 15) → ¬ n13 ≤ m4 → ¬ a5 = (κ 11) → ¬ a5 = (κ 15) → ¬ a15 = (κ 11) → a15 = (κ 15) → m4 < n21) (q112 : ¬ x3 = 0 → ¬ a5 = (κ 11) → ¬ a5 = (κ 15) → ¬ n13 ≤ m4 → ¬ a5 = (κ 11) → ¬ a5 = (κ 15) → ¬ a15 = (κ 11) → a15 = (κ 15) → (g22 m4) < 128) (k113 : ¬ x3 = 0 → ¬ a5 = (κ 11) → ¬ a5 = (κ 15) → ¬ n13 ≤ m4 → ¬ a5 = (κ 11) → ¬ a5 = (κ 15) → a15 = (κ 11) → ¬ (g14 m4) = (nI (g22 m4)) → Rn G mX8_isSame 30 [(0, .ref a1), (1, .ref a2), (2, .int 0), (3, .int (nI (m4 + 1)))] [] w Q) (k114 : ¬ x3 = 0 → ¬ a5 = (κ 11) → ¬ a5 = (κ 15) → ¬ n13 ≤ m4 → ¬ a5 = (κ 11) → ¬ a5 = (κ 15) → a15 = (κ 11) → (g14 m4) = (nI (g22 m4)) → Rn G mX8_isSame 30 [(0, .ref a1), (1, .ref a2), (2, .int 1), (3, .int (nI (m4 + 1)))] [] w Q) (k115 : ¬ x3 = 0 → ¬ a5 = (κ 11) → ¬ a5 = (κ 15) → ¬ n13 ≤ m4 → ¬ a5 = (κ 11) → ¬ a5 = (κ 15) → ¬ a15 = (κ 11) → ¬ a15 = (κ 15) → ¬ (g14 m4) = (g24 m4) → Rn G mX8_isSame 30 [(0, .ref a1), (1, .ref a2), (2, .int 0), (3, .int (nI (m4 + 1)))] [] w Q) (k116 : ¬ x3 = 0 → ¬ a5 = (κ 11) → ¬ a5 = (κ 15) → ¬ n13 ≤ m4 → ¬ a5 = (κ 11) → ¬ a5 = (κ 15) → ¬ a15 = (κ 11) → ¬ a15 = (κ 15) → (g14 m4) = (g24 m4) → Rn G mX8_isSame 30 [(0, .ref a1), (1, .ref a2), (2, .int 1), (3, .int (nI (m4 + 1)))] [] w Q) (k117 : ¬ x3 = 0 → ¬ a5 = (κ 11) → ¬ a5 = (κ 15) → ¬ n13 ≤ m4 → ¬ a5 = (κ 11) → ¬ a5 = (κ 15) → ¬ a15 = (κ 11) → a15 = (κ 15) → ¬ (g14 m4) = (nI (g22 m4)) → Rn G mX8_isSame 30 [(0, .ref a1), (1, .ref a2), (2, .int 0), (3, .int (nI (m4 + 1)))] [] w Q) (k118 : ¬ x3 = 0 → ¬ a5 = (κ 11) → ¬ a5 = (κ 15) → ¬ n13 ≤ m4 → ¬ a5 = (κ 11) → ¬ a5 = (κ 15) → ¬ a15 = (κ 11) → a15 = (κ 15) → (g14 m4) = (nI (g22 m4)) → Rn G mX8_isSame 30 [(0, .ref a1), (1, .ref a2), (2, .int 1), (3, .int (nI (m4 + 1)))] [] w Q) (b119 : ¬ x3 = 0 → ¬ a5 = (κ 11) → ¬ a5 = (κ 15) → ¬ n13 ≤ m4 → ¬ a5 = (κ 11) → a5 = (κ 15) → a15 = (κ 11) → m4 < 2 ^ 31) (b120 : ¬ x3 = 0 → ¬ a5 = (κ 11) → ¬ a5 = (κ 15) → ¬ n13 ≤ m4 → ¬ a5 = (κ 11) → a5 = (κ 15) → a15 = (κ 11) → n21 < 2 ^ 31) (f121 : ¬ x3 = 0 → ¬ a5 = (κ 11) → ¬ a5 = (κ 15) → ¬ n13 ≤ m4 → ¬ a5 = (κ 11) → a5 = (κ 15) → a15 = (κ 11) → m4 < n21) (q122 : ¬ x3 = 0 → ¬ a5 = (κ 11) → ¬ a5 = (κ 15) → ¬ n13 ≤ m4 → ¬ a5 = (κ 11) → a5 = (κ 15) → a15 = (κ 11) → (g22 m4) < 128) (b123 : ¬ x3 = 0 → ¬ a5 = (κ 11) → ¬ a5 = (κ 15) → ¬ n13 ≤ m4 → ¬ a5 = (κ 11) → a5 = (κ 15) → ¬ a15 = (κ 11) → ¬ a15 = (κ 15) → m4 < n23) (b124 : ¬ x3 = 0 → ¬ a5 = (κ 11) → ¬ a5 = (κ 15) → ¬ n13 ≤ m4 → ¬ a5 = (κ 11) → a5 = (κ 15) → n23 < 2 ^ 31) (b125 : ¬ x3 = 0 → ¬ a5 = (κ 11) → ¬ a5 = (κ 15) → ¬ n13 ≤ m4 → ¬ a5 = (κ 11) → a5 = (κ 15) → ¬ a15 = (κ 11) → a15 = (κ 15) → m4 < 2 ^ 31) (b126 : ¬ x3 = 0 → ¬ a5 = (κ 11) → ¬ a5 = (κ 15) → ¬ n13 ≤ m4 → ¬ a5 = (κ 11) → a5 = (κ 15) → ¬ a15 = (κ 11) → a15 = (κ 15) → n21 < 2 ^ 31) (f127 : ¬ x3 = 0 → ¬ a5 = (κ 11) → ¬ a5 = (κ 15) → ¬ n13 ≤ m4 → ¬ a5 = (κ 11) → a5 = (κ 15) → ¬ a15 = (κ 11) → a15 = (κ 15) → m4 < n21) (q128 : ¬ x3 = 0 → ¬ a5 = (κ 11) → ¬ a5 = (κ 15) → ¬ n13 ≤ m4 → ¬ a5 = (κ 11) → a5 = (κ 15) → ¬ a15 = (κ 11) → a15 = (κ 15) → (g22 m4) < 128) (k129 : ¬ x3 = 0 → ¬ a5 = (κ 11) → ¬ a5 = (κ 15) → ¬ n13 ≤ m4 → ¬ a5 = (κ 11) → a5 = (κ 15) → a15 = (κ 11) → ¬ (g12 m4) = (g22 m4) → Rn G mX8_isSame 30 [(0, .ref a1), (1, .ref a2), (2, .int 0), (3, .int (nI (m4 + 1)))] [] w Q) (k130 : ¬ x3 = 0 → ¬ a5 = (κ 11) → ¬ a5 = (κ 15) → ¬ n13 ≤ m4 → ¬ a5 = (κ 11) → a5 = (κ 15) → a15 = (κ 11) → (g12 m4) = (g22 m4) → Rn G mX8_isSame 30 [(0, .ref a1), (1, .ref a2), (2, .int 1), (3, .int (nI (m4 + 1)))] [] w Q) (k131 : ¬ x3 = 0 → ¬ a5 = (κ 11) → ¬ a5 = (κ 15) → ¬ n13 ≤ m4 → ¬ a5 = (κ 11) → a5 = (κ 15) → ¬ a15 = (κ 11) → ¬ a15 = (κ 15) → ¬ (nI (g12 m4)) = (g24 m4) → Rn G mX8_isSame 30 [(0, .ref a1), (1, .ref a2), (2, .int 0), (3, .int (nI (m4 + 1)))] [] w Q) (k132 : ¬ x3 = 0 → ¬ a5 = (κ 11) → ¬ a5 = (κ 15) → ¬ n13 ≤ m4 → ¬ a5 = (κ 11) → a5 = (κ 15) → ¬ a15 = (κ 11) → ¬ a15 = (κ 15) → (nI (g12 m4)) = (g24 m4) → Rn G mX8_isSame 30 [(0, .ref a1), (1, .ref a2), (2, .int 1), (3, .int (nI (m4 + 1)))] [] w Q) (k133 : ¬ x3 = 0 → ¬ a5 = (κ 11) → ¬ a5 = (κ 15) → ¬ n13 ≤ m4 → ¬ a5 = (κ 11) → a5 = (κ 15) → ¬ a15 = (κ 11) → a15 = (κ 15) → ¬ (g12 m4) = (g22 m4) → Rn G mX8_isSame 30 [(0, .ref a1), (1, .ref a2), (2, .int 0), (3, .int (nI (m4 + 1)))] [] w Q) (k134 : ¬ x3 = 0 → ¬ a5 = (κ 11) → ¬ a5 = (κ 15) → ¬ n13 ≤ m4 → ¬ a5 = (κ 11) → a5 = (κ 15) → ¬ a15 = (κ 11) → a15 = (κ 15) → (g12 m4) = (g22 m4) → Rn G mX8_isSame 30 [(0, .ref a1), (1, .ref a2), (2, .int 1), (3, .int (nI (m4 + 1)))] [] w Q) (q135 : ¬ x3 = 0 → ¬ a5 = (κ 11) → a5 = (κ 15) → n11 ≤ m4 → narrow .boolean (.int x3) = .int x3) (k136 : ¬ x3 = 0 → ¬ a5 = (κ 11) → a5 = (κ 15) → n11 ≤ m4 → Q (.inl (some (.int x3))) w) (b137 : ¬ x3 = 0 → ¬ a5 = (κ 11) → a5 = (κ 15) → ¬ n11 ≤ m4 → a5 = (κ 11) → m4 < 2 ^ 31) (b138 : ¬ x3 = 0 → ¬ a5 = (κ 11) → a5 = (κ 15) → ¬ n11 ≤ m4 → a5 = (κ 11) → n11 < 2 ^ 31) (f139 : ¬ x3 = 0 → ¬ a5 = (κ 11) → a5 = (κ 15) → ¬ n11 ≤ m4 → a5 = (κ 11) → m4 < n11) (q140 : ¬ x3 = 0 → ¬ a5 = (κ 11) → a5 = (κ 15) → ¬ n11 ≤ m4 → a5 = (κ 11) → (g12 m4) < 128) (b141 : ¬ x3 = 0 → ¬ a5 = (κ 11) → a5 = (κ 15) → ¬ n11 ≤ m4 → ¬ a5 = (κ 11) → ¬ a5 = (κ 15) → m4 < n13) (b142 : ¬ x3 = 0 → ¬ a5 = (κ 11) → a5 = (κ 15) → ¬ n11 ≤ m4 → ¬ a5 = (κ 11) → a5 = (κ 15) → m4 < 2 ^ 31) (b143 : ¬ x3 = 0 → ¬ a5 = (κ 11) → a5 = (κ 15) → ¬ n11 ≤ m4 → ¬ a5 = (κ 11) → a5 = (κ 15) → n11 < 2 ^ 31) (f144 : ¬ x3 = 0 → ¬ a5 = (κ 11) → a5 = (κ 15) → ¬ n11 ≤ m4 → ¬ a5 = (κ 11) → a5 = (κ 15) → m4 < n11) (q145 : ¬ x3 = 0 → ¬ a5 = (κ 11) → a5 = (κ 15) → ¬ n11 ≤ m4 → ¬ a5 = (κ 11) → a5 = (κ 15) → (g12 m4) < 128) (b146 : ¬ x3 = 0 → ¬ a5 = (κ 11) → a5 = (κ 15) → ¬ n11 ≤ m4 → a5 = (κ 11) → a15 = (κ 11) → m4 < 2 ^ 31) (b147 : ¬ x3 = 0 → ¬ a5 = (κ 11) → a5 = (κ 15) → ¬ n11 ≤ m4 → a5 = (κ 11) → a15 = (κ 11) → n21 < 2 ^ 31) (f148 : ¬ x3 = 0 → ¬ a5 = (κ 11) → a5 = (κ 15) → ¬ n11 ≤ m4 → a5 = (κ 11) → a15 = (κ 11) → m4 < n21) (q149 : ¬ x3 = 0 → ¬ a5 = (κ 11) → a5 = (κ 15) → ¬ n11 ≤ m4 → a5 = (κ 11) → a15 = (κ 11) → (g22 m4) < 128) (b150 : ¬ x3 = 0 → ¬ a5 = (κ 11) → a5 = (κ 15) → ¬ n11 ≤ m4 → a5 = (κ 11) → ¬ a15 = (κ 11) → ¬ a15 = (κ 15) → m4 < n23) (b151 : ¬ x3 = 0 → ¬ a5 = (κ 11) → a5 = (κ 15) → ¬ n11 ≤ m4 → a5 = (κ 11) → n23 < 2 ^ 31) (b152 : ¬ x3 = 0 → ¬ a5 = (κ 11) → a5 = (κ 15) → ¬ n11 ≤ m4 → a5 = (κ 11) → ¬ a15 = (κ 11) → a15 = (κ 15) → m4 < 2 ^ 31) (b153 : ¬ x3 = 0 → ¬ a5 = (κ 11) → a5 = (κ 15) → ¬ n11 ≤ m4 → a5 = (κ 11) → ¬ a15 = (κ 11) → a15 = (κ 15) → n21 < 2 ^ 31) (f154 : ¬ x3 = 0 → ¬ a5 = (κ 11) → a5 = (κ 15) → ¬ n11 ≤ m4 → a5 = (κ 11) → ¬ a15 = (κ 11) → a15 = (κ 15) → m4 < n21) (q155 : ¬ x3 = 0 → ¬ a5 = (κ 11) → a5 = (κ 15) → ¬ n11 ≤ m4 → a5 = (κ 11) → ¬ a15 = (κ 11) → a15 = (κ 15) → (g22 m4) < 128) (k156 : ¬ x3 = 0 → ¬ a5 = (κ 11) → a5 = (κ 15) → ¬ n11 ≤ m4 → a5 = (κ 11) → a15 = (κ 11) → ¬ (g12 m4) = (g22 m4) → Rn G mX8_isSame 30 [(0, .ref a1), (1, .ref a2), (2, .int 0), (3, .int (nI (m4 + 1)))] [] w Q) (k157 : ¬ x3 = 0 → ¬ a5 = (κ 11) → a5 = (κ 15) → ¬ n11 ≤ m4 → a5 = (κ 11) → a15 = (κ 11) → (g12 m4) = (g22 m4) → Rn G mX8_isSame 30 [(0, .ref a1), (1, .ref a2), (2, .int 1), (3, .int (nI (m4 + 1)))] [] w Q) (k158 : ¬ x3 = 0 → ¬ a5 = (κ 11) → a5 = (κ 15) → ¬ n11 ≤ m4 → a5 = (κ 11) → ¬ a15 = (κ 11) → ¬ a15 = (κ 15) → ¬ (nI (g12 m4)) = (g24 m4) → Rn G mX8_isSame 30 [(0, .ref a1), (1, .ref a2), (2, .int 0), (3, .int (nI (m4 + 1)))] [] w Q) (k159 : ¬ x3 = 0 → ¬ a5 = (κ 11) → a5 = (κ 15) → ¬ n11 ≤ m4 → a5 = (κ 11) → ¬ a15 = (κ 11) → ¬ a15 = (κ 15) → (nI (g12 m4)) = (g24 m4) → Rn G mX8_isSame 30 [(0, .ref a1), (1, .ref a2), (2, .int 1), (3, .int (nI (m4 + 1)))] [] w Q) (k160 : ¬ x3 = 0 → ¬ a5 = (κ 11) → a5 = (κ 15) → ¬ n11 ≤ m4 → a5 = (κ 11) → ¬ a15 = (κ 11) → a15 = (κ 15) → ¬ (g12 m4) = (g22 m4) → Rn G mX8_isSame 30 [(0, .ref a1), (1, .ref a2), (2, .int 0), (3, .int (nI (m4 + 1)))] [] w Q) (k161 : ¬ x3 = 0 → ¬ a5 = (κ 11) → a5 = (κ 15) → ¬ n11 ≤ m4 → a5 = (κ 11) → ¬ a15 = (κ 11) → a15 = (κ 15) → (g12 m4) = (g22 m4) → Rn G mX8_isSame 30 [(0, .ref a1), (1, .ref a2), (2, .int 1), (3, .int (nI (m4 + 1)))] [] w Q) (b162 : ¬ x3 = 0 → ¬ a5 = (κ 11) → a5 = (κ 15) → ¬ n11 ≤ m4 → ¬ a5 = (κ 11) → ¬ a5 = (κ 15) → a15 = (κ 11) → m4 < 2 ^ 31) (b163 : ¬ x3 = 0 → ¬ a5 = (κ 11) → a5 = (κ 15) → ¬ n11 ≤ m4 → ¬ a5 = (κ 11) → ¬ a5 = (κ 15) → a15 = (κ 11) → n21 < 2 ^ 31) (f164 : ¬ x3 = 0 → ¬ a5 = (κ 11) → a5 = (κ 15) → ¬ n11 ≤ m4 → ¬ a5 = (κ 11) → ¬ a5 = (κ 15) → a15 = (κ 11) → m4 < n21) (q165 : ¬ x3 = 0 → ¬ a5 = (κ 11) → a5 = (κ 15) → ¬ n11 ≤ m4 → ¬ a5 = (κ 11) → ¬ a5 = (κ 15) → a15 = (κ 11) → (g22 m4) < 128) (b166 : ¬ x3 = 0 → ¬ a5 = (κ 11) → a5 = (κ 15) → ¬ n11 ≤ m4 → ¬ a5 = (κ 11) → ¬ a5 = (κ 15) → ¬ a15 = (κ 11) → ¬ a15 = (κ 15) → m4 < n23) (b167 : ¬ x3 = 0 → ¬ a5 = (κ 11) → a5 = (κ 15) → ¬ n11 ≤ m4 → ¬ a5 = (κ 11) → ¬ a5 = (κ 15) → n23 < 2 ^ 31) (b168 : ¬ x3 = 0 → ¬ a5 = (κ 11) → a5 = (κ 15) → ¬ n11 ≤ m4 → ¬ a5 = (κ 11) → ¬ a5 = (κ 15) → ¬ a15 = (κ 11) → a15 = (κ 15) → m4 < 2 ^ 31) (b169 : ¬ x3 = 0 → ¬ a5 = (κ 11) → a5 = (κ 15) → ¬ n11 ≤ m4 → ¬ a5 = (κ 11) → ¬ a5 = (κ 15) → ¬ a15 = (κ 11) → a15 = (κ 15) → n21 < 2 ^ 31) (f170 : ¬ x3 = 0 → ¬ a5 = (κ 11) → a5 = (κ 15) → ¬ n11 ≤ m4 → ¬ a5 = (κ 11) → ¬ a5 = (κ 15) → ¬ a15 = (κ 11) → a15 = (κ 15) → m4 < n21) (q171 : ¬ x3 = 0 → ¬ a5 = (κ 11) → a5 = (κ 15) → ¬ n11 ≤ m4 → ¬ a5 = (κ 11) → ¬ a5 = (κ 15) → ¬ a15 = (κ 11) → a15 = (κ 15) → (g22 m4) < 128) (k172 : ¬ x3 = 0 → ¬ a5 = (κ 11) → a5 = (κ 15) → ¬ n11 ≤ m4 → ¬ a5 = (κ 11) → ¬ a5 = (κ 15) → a15 = (κ 11) → ¬ (g14 m4) = (nI (g22 m4)) → Rn G mX8_isSame 30 [(0, .ref a1), (1, .ref a2), (2, .int 0), (3, .int (nI (m4 + 1)))] [] w Q) (k173 : ¬ x3 = 0 → ¬ a5 = (κ 11) → a5 = (κ 15) → ¬ n11 ≤ m4 → ¬ a5 = (κ 11) → ¬ a5 = (κ 15) → a15 = (κ 11) → (g14 m4) = (nI (g22 m4)) → Rn G mX8_isSame 30 [(0, .ref a1), (1, .ref a2), (2, .int 1), (3, .int (nI (m4 + 1)))] [] w Q) (k174 : ¬ x3 = 0 → ¬ a5 = (κ 11) → a5 = (κ 15) → ¬ n11 ≤ m4 → ¬ a5 = (κ 11) → ¬ a5 = (κ 15) → ¬ a15 = (κ 11) → ¬ a15 = (κ 15) → ¬ (g14 m4) = (g24 m4) → Rn G mX8_isSame 30 [(0, .ref a1), (1, .ref a2), (2, .int 0), (3, .int (nI (m4 + 1)))] [] w Q) (k175 : ¬ x3 = 0 → ¬ a5 = (κ 11) → a5 = (κ 15) → ¬ n11 ≤ m4 → ¬ a5 = (κ 11) → ¬ a5 = (κ 15) → ¬ a15 = (κ 11) → ¬ a15 = (κ 15) → (g14 m4) = (g24 m4) → Rn G mX8_isSame 30 [(0, .ref a1), (1, .ref a2), (2, .int 1), (3, .int (nI (m4 + 1)))] [] w Q) (k176 : ¬ x3 = 0 → ¬ a5 = (κ 11) → a5 = (κ 15) → ¬ n11 ≤ m4 → ¬ a5 = (κ 11) → ¬ a5 = (κ 15) → ¬ a15 = (κ 11) → a15 = (κ 15) → ¬ (g14 m4) = (nI (g22 m4)) → Rn G mX8_isSame 30 [(0, .ref a1), (1, .ref a2), (2, .int 0), (3, .int (nI (m4 + 1)))] [] w Q) (k177 : ¬ x3 = 0 → ¬ a5 = (κ 11) → a5 = (κ 15) → ¬ n11 ≤ m4 → ¬ a5 = (κ 11) → ¬ a5 = (κ 15) → ¬ a15 = (κ 11) → a15 = (κ 15) → (g14 m4) = (nI (g22 m4)) → Rn G mX8_isSame 30 [(0, .ref a1), (1, .ref a2), (2, .int 1), (3, .int (nI (m4 + 1)))] [] w Q) (b178 : ¬ x3 = 0 → ¬ a5 = (κ 11) → a5 = (κ 15) → ¬ n11 ≤ m4 → ¬ a5 = (κ 11) → a5 = (κ 15) → a15 = (κ 11) → m4 < 2 ^ 31) (b179 : ¬ x3 = 0 → ¬ a5 = (κ 11) → a5 = (κ 15) → ¬ n11 ≤ m4 → ¬ a5 = (κ 11) → a5 = (κ 15) → a15 = (κ 11) → n21 < 2 ^ 31) (f180 : ¬ x3 = 0 → ¬ a5 = (κ 11) → a5 = (κ 15) → ¬ n11 ≤ m4 → ¬ a5 = (κ 11) → a5 = (κ 15) → a15 = (κ 11) → m4 < n21) (q181 : ¬ x3 = 0 → ¬ a5 = (κ 11) → a5 = (κ 15) → ¬ n11 ≤ m4 → ¬ a5 = (κ 11) → a5 = (κ 15) → a15 = (κ 11) → (g22 m4) < 128) (b182 : ¬ x3 = 0 → ¬ a5 = (κ 11) → a5 = (κ 15) → ¬ n11 ≤ m4 → ¬ a5 = (κ 11) → a5 = (κ 15) → ¬ a15 = (κ 11) → ¬ a15 = (κ 15) → m4 < n23) (b183 : ¬ x3 = 0 → ¬ a5 = (κ 11) → a5 = (κ 15) → ¬ n11 ≤ m4 → ¬ a5 = (κ 11) → a5 = (κ 15) → n23 < 2 ^ 31) (b184 : ¬ x3 = 0 → ¬ a5 = (κ 11) → a5 = (κ 15) → ¬ n11 ≤ m4 → ¬ a5 = (κ 11) → a5 = (κ 15) → ¬ a15 = (κ 11) → a15 = (κ 15) → m4 < 2 ^ 31) (b185 : ¬ x3 = 0 → ¬ a5 = (κ 11) → a5 = (κ 15) → ¬ n11 ≤ m4 → ¬ a5 = (κ 11) → a5 = (κ 15) → ¬ a15 = (κ 11) → a15 = (κ 15) → n21 < 2 ^ 31) (f186 : ¬ x3 = 0 → ¬ a5 = (κ 11) → a5 = (κ 15) → ¬ n11 ≤ m4 → ¬ a5 = (κ 11) → a5 = (κ 15) → ¬ a15 = (κ 11) → a15 = (κ 15) → m4 < n21) (q187 : ¬ x3 = 0 → ¬ a5 = (κ 11) → a5 = (κ 15) → ¬ n11 ≤ m4 → ¬ a5 = (κ 11) → a5 = (κ 15) → ¬ a15 = (κ 11) → a15 = (κ 15) → (g22 m4) < 128) (k188 : ¬ x3 = 0 → ¬ a5 = (κ 11) → a5 = (κ 15) → ¬ n11 ≤ m4 → ¬ a5 = (κ 11) → a5 = (κ 15) → a15 = (κ 11) → ¬ (g12 m4) = (g22 m4) → Rn G mX8_isSame 30 [(0, .ref a1), (1, .ref a2), (2, .int 0), (3, .int (nI (m4 + 1)))] [] w Q) (k189 : ¬ x3 = 0 → ¬ a5 = (κ 11) → a5 = (κ 15) → ¬ n11 ≤ m4 → ¬ a5 = (κ 11) → a5 = (κ 15) → a15 = (κ 11) → (g12 m4) = (g22 m4) → Rn G mX8_isSame 30 [(0, .ref a1), (1, .ref a2), (2, .int 1), (3, .int (nI (m4 + 1)))] [] w Q) (k190 : ¬ x3 = 0 → ¬ a5 = (κ 11) → a5 = (κ 15) → ¬ n11 ≤ m4 → ¬ a5 = (κ 11) → a5 = (κ 15) → ¬ a15 = (κ 11) → ¬ a15 = (κ 15) → ¬ (nI (g12 m4)) = (g24 m4) → Rn G mX8_isSame 30 [(0, .ref a1), (1, .ref a2), (2, .int 0), (3, .int (nI (m4 + 1)))] [] w Q) (k191 : ¬ x3 = 0 → ¬ a5 = (κ 11) → a5 = (κ 15) → ¬ n11 ≤ m4 → ¬ a5 = (κ 11) → a5 = (κ 15) → ¬ a15 = (κ 11) → ¬ a15 = (κ 15) → (nI (g12 m4)) = (g24 m4) → Rn G mX8_isSame 30 [(0, .ref a1), (1, .ref a2), (2, .int 1), (3, .int (nI (m4 + 1)))] [] w Q) (k192 : ¬ x3 = 0 → ¬ a5 = (κ 11) → a5 = (κ 15) → ¬ n11 ≤ m4 → ¬ a5 = (κ 11) → a5 = (κ 15) → ¬ a15 = (κ 11) → a15 = (κ 15) → ¬ (g12 m4) = (g22 m4) → Rn G mX8_isSame 30 [(0, .ref a1), (1, .ref a2), (2, .int 0), (3, .int (nI (m4 + 1)))] [] w Q) (k193 : ¬ x3 = 0 → ¬ a5 = (κ 11) → a5 = (κ 15) → ¬ n11 ≤ m4 → ¬ a5 = (κ 11) → a5 = (κ 15) → ¬ a15 = (κ 11) → a15 = (κ 15) → (g12 m4) = (g22 m4) → Rn G mX8_isSame 30 [(0, .ref a1), (1, .ref a2), (2, .int 1), (3, .int (nI (m4 + 1)))] [] w Q) : Rn G mX8_isSame 30 [(0, .ref a1), (1, .ref a2), (2, .int x3), (3, .int (nI m4))] [] w Q := by
  refine r_iload_n 16 31 2 rfl rfl rfl ?_
  refine r_if_eq 17 34 67 rfl rfl rfl (fun c1 => ?_) (fun c1 => ?_)
  · refine r_iload_n 35 68 2 rfl rfl rfl ?_
    exact r_iret 36 rfl rfl (q1 c1) (k2 c1)
  · refine r_iload_n 18 35 3 rfl rfl rfl ?_
    refine r_aload_n 19 36 0 rfl rfl rfl ?_
    refine r_callV lkV_X8_54_X8 (C := RX8) (TT := TX8) (NN := 3) rfl o3 20 39 rfl rfl (by decide) [] rfl rfl (Nat.le_of_ble_eq_true rfl) (Nat.le_of_ble_eq_true rfl) (e_X8_size hS (o1 := o3) (o2 := o4) (o3 := o5) (o5 := o6) (k4 := fun z1_0 => ?_) (k6 := fun z1_0 => fun z1_1 => ?_) (k7 := fun z1_0 => fun z1_1 => ?_)) (fun _ _ h => h)
    · show Rn G mX8_isSame 39 [(0, .ref a1), (1, .ref a2), (2, .int x3), (3, .int (nI m4))] [.int (nI n11), .int (nI m4)] w _
      refine y_icmp_ge (a := m4) (b := n11) bd7 bd8 21 42 67 rfl rfl rfl (fun c3 => ?_) (fun c3 => ?_)
      · refine r_iload_n 35 68 2 rfl rfl rfl ?_
        exact r_iret 36 rfl rfl (q9 c1 z1_0 c3) (k10 c1 z1_0 c3)
      · refine r_aload_n 22 43 0 rfl rfl rfl ?_
        refine r_iload_n 23 44 3 rfl rfl rfl ?_
        refine r_callV lkV_X8_57_X8 (C := RX8) (TT := TX8) (NN := 3) rfl o3 24 47 rfl rfl (by decide) [.int (nI m4)] rfl rfl (Nat.le_of_ble_eq_true rfl) (Nat.le_of_ble_eq_true rfl) (e_X8_item hS (m2 := m4) (o1 := o3) (o2 := o4) (o3 := o5) (b4 := (b11 c1 z1_0 c3)) (b5 := (b12 c1 z1_0 c3)) (f6 := (f13 c1 z1_0 c3)) (q7 := (q14 c1 z1_0 c3)) (o9 := o6) (b10 := (b15 c1 z1_0 c3)) (bd11 := (b16 c1 z1_0 c3)) (b13 := (b17 c1 z1_0 c3)) (b14 := (b18 c1 z1_0 c3)) (f15 := (f19 c1 z1_0 c3)) (q16 := (q20 c1 z1_0 c3)) (k8 := fun z3_0 => ?_) (k12 := fun z3_0 => fun z3_1 => ?_) (k17 := fun z3_0 => fun z3_1 => ?_)) (fun _ _ h => h)
        · show Rn G mX8_isSame 47 [(0, .ref a1), (1, .ref a2), (2, .int x3), (3, .int (nI m4))] [.int (nI (g12 m4))] w _
          refine r_aload_n 25 48 1 rfl rfl rfl ?_
          refine r_iload_n 26 49 3 rfl rfl rfl ?_
          refine r_callV lkV_X8_57_X8 (C := RX8) (TT := TX8) (NN := 3) rfl o21 27 52 rfl rfl (by decide) [.int (nI m4)] rfl rfl (Nat.le_of_ble_eq_true rfl) (Nat.le_of_ble_eq_true rfl) (e_X8_item hS (m2 := m4) (o1 := o21) (o2 := o22) (o3 := o23) (b4 := (b25 c1 z1_0 c3 z3_0)) (b5 := (b26 c1 z1_0 c3 z3_0)) (f6 := (f27 c1 z1_0 c3 z3_0)) (q7 := (q28 c1 z1_0 c3 z3_0)) (o9 := o24) (b10 := (b29 c1 z1_0 c3 z3_0)) (bd11 := (b30 c1 z1_0 c3 z3_0)) (b13 := (b31 c1 z1_0 c3 z3_0)) (b14 := (b32 c1 z1_0 c3 z3_0)) (f15 := (f33 c1 z1_0 c3 z3_0)) (q16 := (q34 c1 z1_0 c3 z3_0)) (k8 := fun z4_0 => ?_) (k12 := fun z4_0 => fun z4_1 => ?_) (k17 := fun z4_0 => fun z4_1 => ?_)) (fun _ _ h => h)
          · show Rn G mX8_isSame 52 [(0, .ref a1), (1, .ref a2), (2, .int x3), (3, .int (nI m4))] [.int (nI (g22 m4)), .int (nI (g12 m4))] w _
            refine y_icmp_ne (a := (g12 m4)) (b := (g22 m4)) bd35 bd36 28 55 59 rfl rfl rfl (fun c6 => ?_) (fun c6 => ?_)
            · refine r_iconst 31 60 rfl rfl di_0 ?_
              refine r_istore_n (lv' := [(2, .int 0), (0, .ref a1), (1, .ref a2), (3, .int (nI m4))]) 32 61 rfl rfl (Nat.le_of_ble_eq_true rfl) rfl ?_
              refine r_iinc (v := (nI (m4 + 1))) (lv' := [(3, .int (nI (m4 + 1))), (2, .int 0), (0, .ref a1), (1, .ref a2)]) 33 64 3 rfl rfl rfl (by rw [di_1]; exact nI_add _ _) (Nat.le_of_ble_eq_true rfl) rfl ?_
              refine r_goto 34 30 rfl rfl ?_
              exact r_sub [2, 3, 1, 0] rfl (k37 c1 z1_0 c3 z3_0 z4_0 c6)
            · refine r_iconst 29 56 rfl rfl di_1 ?_
              refine r_goto 30 60 rfl rfl ?_
              refine r_istore_n (lv' := [(2, .int 1), (0, .ref a1), (1, .ref a2), (3, .int (nI m4))]) 32 61 rfl rfl (Nat.le_of_ble_eq_true rfl) rfl ?_
              refine r_iinc (v := (nI (m4 + 1))) (lv' := [(3, .int (nI (m4 + 1))), (2, .int 1), (0, .ref a1), (1, .ref a2)]) 33 64 3 rfl rfl rfl (by rw [di_1]; exact nI_add _ _) (Nat.le_of_ble_eq_true rfl) rfl ?_
              refine r_goto 34 30 rfl rfl ?_
              exact r_sub [2, 3, 1, 0] rfl (k38 c1 z1_0 c3 z3_0 z4_0 c6)
          · show Rn G mX8_isSame 52 [(0, .ref a1), (1, .ref a2), (2, .int x3), (3, .int (nI m4))] [.int (g24 m4), .int (nI (g12 m4))] w _
            refine r_icmp_ne 28 55 59 rfl rfl rfl (fun c7 => ?_) (fun c7 => ?_)
            · refine r_iconst 31 60 rfl rfl di_0 ?_
              refine r_istore_n (lv' := [(2, .int 0), (0, .ref a1), (1, .ref a2), (3, .int (nI m4))]) 32 61 rfl rfl (Nat.le_of_ble_eq_true rfl) rfl ?_
              refine r_iinc (v := (nI (m4 + 1))) (lv' := [(3, .int (nI (m4 + 1))), (2, .int 0), (0, .ref a1), (1, .ref a2)]) 33 64 3 rfl rfl rfl (by rw [di_1]; exact nI_add _ _) (Nat.le_of_ble_eq_true rfl) rfl ?_
              refine r_goto 34 30 rfl rfl ?_
              exact r_sub [2, 3, 1, 0] rfl (k39 c1 z1_0 c3 z3_0 z4_0 z4_1 c7)
            · refine r_iconst 29 56 rfl rfl di_1 ?_
              refine r_goto 30 60 rfl rfl ?_
              refine r_istore_n (lv' := [(2, .int 1), (0, .ref a1), (1, .ref a2), (3, .int (nI m4))]) 32 61 rfl rfl (Nat.le_of_ble_eq_true rfl) rfl ?_
              refine r_iinc (v := (nI (m4 + 1))) (lv' := [(3, .int (nI (m4 + 1))), (2, .int 1), (0, .ref a1), (1, .ref a2)]) 33 64 3 rfl rfl rfl (by rw [di_1]; exact nI_add _ _) (Nat.le_of_ble_eq_true rfl) rfl ?_
              refine r_goto 34 30 rfl rfl ?_
              exact r_sub [2, 3, 1, 0] rfl (k40 c1 z1_0 c3 z3_0 z4_0 z4_1 c7)
          · show Rn G mX8_isSame 52 [(0, .ref a1), (1, .ref a2), (2, .int x3), (3, .int (nI m4))] [.int (nI (g22 m4)), .int (nI (g12 m4))] w _
            refine y_icmp_ne (a := (g12 m4)) (b := (g22 m4)) bd35 bd36 28 55 59 rfl rfl rfl (fun c7 => ?_) (fun c7 => ?_)
            · refine r_iconst 31 60 rfl rfl di_0 ?_
              refine r_istore_n (lv' := [(2, .int 0), (0, .ref a1), (1, .ref a2), (3, .int (nI m4))]) 32 61 rfl rfl (Nat.le_of_ble_eq_true rfl) rfl ?_
              refine r_iinc (v := (nI (m4 + 1))) (lv' := [(3, .int (nI (m4 + 1))), (2, .int 0), (0, .ref a1), (1, .ref a2)]) 33 64 3 rfl rfl rfl (by rw [di_1]; exact nI_add _ _) (Nat.le_of_ble_eq_true rfl) rfl ?_
              refine r_goto 34 30 rfl rfl ?_
              exact r_sub [2, 3, 1, 0] rfl (k41 c1 z1_0 c3 z3_0 z4_0 z4_1 c7)
            · refine r_iconst 29 56 rfl rfl di_1 ?_
              refine r_goto 30 60 rfl rfl ?_
              refine r_istore_n (lv' := [(2, .int 1), (0, .ref a1), (1, .ref a2), (3, .int (nI m4))]) 32 61 rfl rfl (Nat.le_of_ble_eq_true rfl) rfl ?_
              refine r_iinc (v := (nI (m4 + 1))) (lv' := [(3, .int (nI (m4 + 1))), (2, .int 1), (0, .ref a1), (1, .ref a2)]) 33 64 3 rfl rfl rfl (by rw [di_1]; exact nI_add _ _) (Nat.le_of_ble_eq_true rfl) rfl ?_
              refine r_goto 34 30 rfl rfl ?_
              exact r_sub [2, 3, 1, 0] rfl (k42 c1 z1_0 c3 z3_0 z4_0 z4_1 c7)
        · show Rn G mX8_isSame 47 [(0, .ref a1), (1, .ref a2), (2, .int x3), (3, .int (nI m4))] [.int (g14 m4)] w _
          refine r_aload_n 25 48 1 rfl rfl rfl ?_
          refine r_iload_n 26 49 3 rfl rfl rfl ?_
          refine r_callV lkV_X8_57_X8 (C := RX8) (TT := TX8) (NN := 3) rfl o21 27 52 rfl rfl (by decide) [.int (nI m4)] rfl rfl (Nat.le_of_ble_eq_true rfl) (Nat.le_of_ble_eq_true rfl) (e_X8_item hS (m2 := m4) (o1 := o21) (o2 := o22) (o3 := o23) (b4 := (b43 c1 z1_0 c3 z3_0 z3_1)) (b5 := (b44 c1 z1_0 c3 z3_0 z3_1)) (f6 := (f45 c1 z1_0 c3 z3_0 z3_1)) (q7 := (q46 c1 z1_0 c3 z3_0 z3_1)) (o9 := o24) (b10 := (b47 c1 z1_0 c3 z3_0 z3_1)) (bd11 := (b48 c1 z1_0 c3 z3_0 z3_1)) (b13 := (b49 c1 z1_0 c3 z3_0 z3_1)) (b14 := (b50 c1 z1_0 c3 z3_0 z3_1)) (f15 := (f51 c1 z1_0 c3 z3_0 z3_1)) (q16 := (q52 c1 z1_0 c3 z3_0 z3_1)) (k8 := fun z5_0 => ?_) (k12 := fun z5_0 => fun z5_1 => ?_) (k17 := fun z5_0 => fun z5_1 => ?_)) (fun _ _ h => h)
          · show Rn G mX8_isSame 52 [(0, .ref a1), (1, .ref a2), (2, .int x3), (3, .int (nI m4))] [.int (nI (g22 m4)), .int (g14 m4)] w _
            refine r_icmp_ne 28 55 59 rfl rfl rfl (fun c7 => ?_) (fun c7 => ?_)
            · refine r_iconst 31 60 rfl rfl di_0 ?_
              refine r_istore_n (lv' := [(2, .int 0), (0, .ref a1), (1, .ref a2), (3, .int (nI m4))]) 32 61 rfl rfl (Nat.le_of_ble_eq_true rfl) rfl ?_
              refine r_iinc (v := (nI (m4 + 1))) (lv' := [(3, .int (nI (m4 + 1))), (2, .int 0), (0, .ref a1), (1, .ref a2)]) 33 64 3 rfl rfl rfl (by rw [di_1]; exact nI_add _ _) (Nat.le_of_ble_eq_true rfl) rfl ?_
              refine r_goto 34 30 rfl rfl ?_
              exact r_sub [2, 3, 1, 0] rfl (k53 c1 z1_0 c3 z3_0 z3_1 z5_0 c7)
            · refine r_iconst 29 56 rfl rfl di_1 ?_
              refine r_goto 30 60 rfl rfl ?_
              refine r_istore_n (lv' := [(2, .int 1), (0, .ref a1), (1, .ref a2), (3, .int (nI m4))]) 32 61 rfl rfl (Nat.le_of_ble_eq_true rfl) rfl ?_
              refine r_iinc (v := (nI (m4 + 1))) (lv' := [(3, .int (nI (m4 + 1))), (2, .int 1), (0, .ref a1), (1, .ref a2)]) 33 64 3 rfl rfl rfl (by rw [di_1]; exact nI_add _ _) (Nat.le_of_ble_eq_true rfl) rfl ?_
              refine r_goto 34 30 rfl rfl ?_
              exact r_sub [2, 3, 1, 0] rfl (k54 c1 z1_0 c3 z3_0 z3_1 z5_0 c7)
          · show Rn G mX8_isSame 52 [(0, .ref a1), (1, .ref a2), (2, .int x3), (3, .int (nI m4))] [.int (g24 m4), .int (g14 m4)] w _
            refine r_icmp_ne 28 55 59 rfl rfl rfl (fun c8 => ?_) (fun c8 => ?_)
            · refine r_iconst 31 60 rfl rfl di_0 ?_
              refine r_istore_n (lv' := [(2, .int 0), (0, .ref a1), (1, .ref a2), (3, .int (nI m4))]) 32 61 rfl rfl (Nat.le_of_ble_eq_true rfl) rfl ?_
              refine r_iinc (v := (nI (m4 + 1))) (lv' := [(3, .int (nI (m4 + 1))), (2, .int 0), (0, .ref a1), (1, .ref a2)]) 33 64 3 rfl rfl rfl (by rw [di_1]; exact nI_add _ _) (Nat.le_of_ble_eq_true rfl) rfl ?_
              refine r_goto 34 30 rfl rfl ?_
              exact r_sub [2, 3, 1, 0] rfl (k55 c1 z1_0 c3 z3_0 z3_1 z5_0 z5_1 c8)
            · refine r_iconst 29 56 rfl rfl di_1 ?_
              refine r_goto 30 60 rfl rfl ?_
              refine r_istore_n (lv' := [(2, .int 1), (0, .ref a1), (1, .ref a2), (3, .int (nI m4))]) 32 61 rfl rfl (Nat.le_of_ble_eq_true rfl) rfl ?_
              refine r_iinc (v := (nI (m4 + 1))) (lv' := [(3, .int (nI (m4 + 1))), (2, .int 1), (0, .ref a1), (1, .ref a2)]) 33 64 3 rfl rfl rfl (by rw [di_1]; exact nI_add _ _) (Nat.le_of_ble_eq_true rfl) rfl ?_
              refine r_goto 34 30 rfl rfl ?_
              exact r_sub [2, 3, 1, 0] rfl (k56 c1 z1_0 c3 z3_0 z3_1 z5_0 z5_1 c8)
          · show Rn G mX8_isSame 52 [(0, .ref a1), (1, .ref a2), (2, .int x3), (3, .int (nI m4))] [.int (nI (g22 m4)), .int (g14 m4)] w _
            refine r_icmp_ne 28 55 59 rfl rfl rfl (fun c8 => ?_) (fun c8 => ?_)
            · refine r_iconst 31 60 rfl rfl di_0 ?_
              refine r_istore_n (lv' := [(2, .int 0), (0, .ref a1), (1, .ref a2), (3, .int (nI m4))]) 32 61 rfl rfl (Nat.le_of_ble_eq_true rfl) rfl ?_
              refine r_iinc (v := (nI (m4 + 1))) (lv' := [(3, .int (nI (m4 + 1))), (2, .int 0), (0, .ref a1), (1, .ref a2)]) 33 64 3 rfl rfl rfl (by rw [di_1]; exact nI_add _ _) (Nat.le_of_ble_eq_true rfl) rfl ?_
              refine r_goto 34 30 rfl rfl ?_
              exact r_sub [2, 3, 1, 0] rfl (k57 c1 z1_0 c3 z3_0 z3_1 z5_0 z5_1 c8)
            · refine r_iconst 29 56 rfl rfl di_1 ?_
              refine r_goto 30 60 rfl rfl ?_
              refine r_istore_n (lv' := [(2, .int 1), (0, .ref a1), (1, .ref a2), (3, .int (nI m4))]) 32 61 rfl rfl (Nat.le_of_ble_eq_true rfl) rfl ?_
              refine r_iinc (v := (nI (m4 + 1))) (lv' := [(3, .int (nI (m4 + 1))), (2, .int 1), (0, .ref a1), (1, .ref a2)]) 33 64 3 rfl rfl rfl (by rw [di_1]; exact nI_add _ _) (Nat.le_of_ble_eq_true rfl) rfl ?_
              refine r_goto 34 30 rfl rfl ?_
              exact r_sub [2, 3, 1, 0] rfl (k58 c1 z1_0 c3 z3_0 z3_1 z5_0 z5_1 c8)
        · show Rn G mX8_isSame 47 [(0, .ref a1), (1, .ref a2), (2, .int x3), (3, .int (nI m4))] [.int (nI (g12 m4))] w _
          refine r_aload_n 25 48 1 rfl rfl rfl ?_
          refine r_iload_n 26 49 3 rfl rfl rfl ?_
          refine r_callV lkV_X8_57_X8 (C := RX8) (TT := TX8) (NN := 3) rfl o21 27 52 rfl rfl (by decide) [.int (nI m4)] rfl rfl (Nat.le_of_ble_eq_true rfl) (Nat.le_of_ble_eq_true rfl) (e_X8_item hS (m2 := m4) (o1 := o21) (o2 := o22) (o3 := o23) (b4 := (b59 c1 z1_0 c3 z3_0 z3_1)) (b5 := (b60 c1 z1_0 c3 z3_0 z3_1)) (f6 := (f61 c1 z1_0 c3 z3_0 z3_1)) (q7 := (q62 c1 z1_0 c3 z3_0 z3_1)) (o9 := o24) (b10 := (b63 c1 z1_0 c3 z3_0 z3_1)) (bd11 := (b64 c1 z1_0 c3 z3_0 z3_1)) (b13 := (b65 c1 z1_0 c3 z3_0 z3_1)) (b14 := (b66 c1 z1_0 c3 z3_0 z3_1)) (f15 := (f67 c1 z1_0 c3 z3_0 z3_1)) (q16 := (q68 c1 z1_0 c3 z3_0 z3_1)) (k8 := fun z5_0 => ?_) (k12 := fun z5_0 => fun z5_1 => ?_) (k17 := fun z5_0 => fun z5_1 => ?_)) (fun _ _ h => h)
          · show Rn G mX8_isSame 52 [(0, .ref a1), (1, .ref a2), (2, .int x3), (3, .int (nI m4))] [.int (nI (g22 m4)), .int (nI (g12 m4))] w _
            refine y_icmp_ne (a := (g12 m4)) (b := (g22 m4)) bd35 bd36 28 55 59 rfl rfl rfl (fun c7 => ?_) (fun c7 => ?_)
            · refine r_iconst 31 60 rfl rfl di_0 ?_
              refine r_istore_n (lv' := [(2, .int 0), (0, .ref a1), (1, .ref a2), (3, .int (nI m4))]) 32 61 rfl rfl (Nat.le_of_ble_eq_true rfl) rfl ?_
              refine r_iinc (v := (nI (m4 + 1))) (lv' := [(3, .int (nI (m4 + 1))), (2, .int 0), (0, .ref a1), (1, .ref a2)]) 33 64 3 rfl rfl rfl (by rw [di_1]; exact nI_add _ _) (Nat.le_of_ble_eq_true rfl) rfl ?_
              refine r_goto 34 30 rfl rfl ?_
              exact r_sub [2, 3, 1, 0] rfl (k69 c1 z1_0 c3 z3_0 z3_1 z5_0 c7)
            · refine r_iconst 29 56 rfl rfl di_1 ?_
              refine r_goto 30 60 rfl rfl ?_
              refine r_istore_n (lv' := [(2, .int 1), (0, .ref a1), (1, .ref a2), (3, .int (nI m4))]) 32 61 rfl rfl (Nat.le_of_ble_eq_true rfl) rfl ?_
              refine r_iinc (v := (nI (m4 + 1))) (lv' := [(3, .int (nI (m4 + 1))), (2, .int 1), (0, .ref a1), (1, .ref a2)]) 33 64 3 rfl rfl rfl (by rw [di_1]; exact nI_add _ _) (Nat.le_of_ble_eq_true rfl) rfl ?_
              refine r_goto 34 30 rfl rfl ?_
              exact r_sub [2, 3, 1, 0] rfl (k70 c1 z1_0 c3 z3_0 z3_1 z5_0 c7)
          · show Rn G mX8_isSame 52 [(0, .ref a1), (1, .ref a2), (2, .int x3), (3, .int (nI m4))] [.int (g24 m4), .int (nI (g12 m4))] w _
            refine r_icmp_ne 28 55 59 rfl rfl rfl (fun c8 => ?_) (fun c8 => ?_)
            · refine r_iconst 31 60 rfl rfl di_0 ?_
              refine r_istore_n (lv' := [(2, .int 0), (0, .ref a1), (1, .ref a2), (3, .int (nI m4))]) 32 61 rfl rfl (Nat.le_of_ble_eq_true rfl) rfl ?_
              refine r_iinc (v := (nI (m4 + 1))) (lv' := [(3, .int (nI (m4 + 1))), (2, .int 0), (0, .ref a1), (1, .ref a2)]) 33 64 3 rfl rfl rfl (by rw [di_1]; exact nI_add _ _) (Nat.le_of_ble_eq_true rfl) rfl ?_
              refine r_goto 34 30 rfl rfl ?_
              exact r_sub [2, 3, 1, 0] rfl (k71 c1 z1_0 c3 z3_0 z3_1 z5_0 z5_1 c8)
            · refine r_iconst 29 56 rfl rfl di_1 ?_
              refine r_goto 30 60 rfl rfl ?_
              refine r_istore_n (lv' := [(2, .int 1), (0, .ref a1), (1, .ref a2), (3, .int (nI m4))]) 32 61 rfl rfl (Nat.le_of_ble_eq_true rfl) rfl ?_
              refine r_iinc (v := (nI (m4 + 1))) (lv' := [(3, .int (nI (m4 + 1))), (2, .int 1), (0, .ref a1), (1, .ref a2)]) 33 64 3 rfl rfl rfl (by rw [di_1]; exact nI_add _ _) (Nat.le_of_ble_eq_true rfl) rfl ?_
              refine r_goto 34 30 rfl rfl ?_
              exact r_sub [2, 3, 1, 0] rfl (k72 c1 z1_0 c3 z3_0 z3_1 z5_0 z5_1 c8)
          · show Rn G mX8_isSame 52 [(0, .ref a1), (1, .ref a2), (2, .int x3), (3, .int (nI m4))] [.int (nI (g22 m4)), .int (nI (g12 m4))] w _
            refine y_icmp_ne (a := (g12 m4)) (b := (g22 m4)) bd35 bd36 28 55 59 rfl rfl rfl (fun c8 => ?_) (fun c8 => ?_)
            · refine r_iconst 31 60 rfl rfl di_0 ?_
              refine r_istore_n (lv' := [(2, .int 0), (0, .ref a1), (1, .ref a2), (3, .int (nI m4))]) 32 61 rfl rfl (Nat.le_of_ble_eq_true rfl) rfl ?_
              refine r_iinc (v := (nI (m4 + 1))) (lv' := [(3, .int (nI (m4 + 1))), (2, .int 0), (0, .ref a1), (1, .ref a2)]) 33 64 3 rfl rfl rfl (by rw [di_1]; exact nI_add _ _) (Nat.le_of_ble_eq_true rfl) rfl ?_
              refine r_goto 34 30 rfl rfl ?_
              exact r_sub [2, 3, 1, 0] rfl (k73 c1 z1_0 c3 z3_0 z3_1 z5_0 z5_1 c8)
            · refine r_iconst 29 56 rfl rfl di_1 ?_
              refine r_goto 30 60 rfl rfl ?_
              refine r_istore_n (lv' := [(2, .int 1), (0, .ref a1), (1, .ref a2), (3, .int (nI m4))]) 32 61 rfl rfl (Nat.le_of_ble_eq_true rfl) rfl ?_
              refine r_iinc (v := (nI (m4 + 1))) (lv' := [(3, .int (nI (m4 + 1))), (2, .int 1), (0, .ref a1), (1, .ref a2)]) 33 64 3 rfl rfl rfl (by rw [di_1]; exact nI_add _ _) (Nat.le_of_ble_eq_true rfl) rfl ?_
              refine r_goto 34 30 rfl rfl ?_
              exact r_sub [2, 3, 1, 0] rfl (k74 c1 z1_0 c3 z3_0 z3_1 z5_0 z5_1 c8)
    · show Rn G mX8_isSame 39 [(0, .ref a1), (1, .ref a2), (2, .int x3), (3, .int (nI m4))] [.int (nI n13), .int (nI m4)] w _
      refine y_icmp_ge (a := m4) (b := n13) (by omega) bd75 21 42 67 rfl rfl rfl (fun c4 => ?_) (fun c4 => ?_)
      · refine r_iload_n 35 68 2 rfl rfl rfl ?_
        exact r_iret 36 rfl rfl (q76 c1 z1_0 z1_1 c4) (k77 c1 z1_0 z1_1 c4)
      · refine r_aload_n 22 43 0 rfl rfl rfl ?_
        refine r_iload_n 23 44 3 rfl rfl rfl ?_
        refine r_callV lkV_X8_57_X8 (C := RX8) (TT := TX8) (NN := 3) rfl o3 24 47 rfl rfl (by decide) [.int (nI m4)] rfl rfl (Nat.le_of_ble_eq_true rfl) (Nat.le_of_ble_eq_true rfl) (e_X8_item hS (m2 := m4) (o1 := o3) (o2 := o4) (o3 := o5) (b4 := (b78 c1 z1_0 z1_1 c4)) (b5 := (b79 c1 z1_0 z1_1 c4)) (f6 := (f80 c1 z1_0 z1_1 c4)) (q7 := (q81 c1 z1_0 z1_1 c4)) (o9 := o6) (b10 := (b82 c1 z1_0 z1_1 c4)) (bd11 := bd75) (b13 := (b83 c1 z1_0 z1_1 c4)) (b14 := (b84 c1 z1_0 z1_1 c4)) (f15 := (f85 c1 z1_0 z1_1 c4)) (q16 := (q86 c1 z1_0 z1_1 c4)) (k8 := fun z4_0 => ?_) (k12 := fun z4_0 => fun z4_1 => ?_) (k17 := fun z4_0 => fun z4_1 => ?_)) (fun _ _ h => h)
        · show Rn G mX8_isSame 47 [(0, .ref a1), (1, .ref a2), (2, .int x3), (3, .int (nI m4))] [.int (nI (g12 m4))] w _
          refine r_aload_n 25 48 1 rfl rfl rfl ?_
          refine r_iload_n 26 49 3 rfl rfl rfl ?_
          refine r_callV lkV_X8_57_X8 (C := RX8) (TT := TX8) (NN := 3) rfl o21 27 52 rfl rfl (by decide) [.int (nI m4)] rfl rfl (Nat.le_of_ble_eq_true rfl) (Nat.le_of_ble_eq_true rfl) (e_X8_item hS (m2 := m4) (o1 := o21) (o2 := o22) (o3 := o23) (b4 := (b87 c1 z1_0 z1_1 c4 z4_0)) (b5 := (b88 c1 z1_0 z1_1 c4 z4_0)) (f6 := (f89 c1 z1_0 z1_1 c4 z4_0)) (q7 := (q90 c1 z1_0 z1_1 c4 z4_0)) (o9 := o24) (b10 := (b91 c1 z1_0 z1_1 c4 z4_0)) (bd11 := (b92 c1 z1_0 z1_1 c4 z4_0)) (b13 := (b93 c1 z1_0 z1_1 c4 z4_0)) (b14 := (b94 c1 z1_0 z1_1 c4 z4_0)) (f15 := (f95 c1 z1_0 z1_1 c4 z4_0)) (q16 := (q96 c1 z1_0 z1_1 c4 z4_0)) (k8 := fun z5_0 => ?_) (k12 := fun z5_0 => fun z5_1 => ?_) (k17 := fun z5_0 => fun z5_1 => ?_)) (fun _ _ h => h)
          · show Rn G mX8_isSame 52 [(0, .ref a1), (1, .ref a2), (2, .int x3), (3, .int (nI m4))] [.int (nI (g22 m4)), .int (nI (g12 m4))] w _
            refine y_icmp_ne (a := (g12 m4)) (b := (g22 m4)) bd35 bd36 28 55 59 rfl rfl rfl (fun c7 => ?_) (fun c7 => ?_)
            · refine r_iconst 31 60 rfl rfl di_0 ?_
              refine r_istore_n (lv' := [(2, .int 0), (0, .ref a1), (1, .ref a2), (3, .int (nI m4))]) 32 61 rfl rfl (Nat.le_of_ble_eq_true rfl) rfl ?_
              refine r_iinc (v := (nI (m4 + 1))) (lv' := [(3, .int (nI (m4 + 1))), (2, .int 0), (0, .ref a1), (1, .ref a2)]) 33 64 3 rfl rfl rfl (by rw [di_1]; exact nI_add _ _) (Nat.le_of_ble_eq_true rfl) rfl ?_
              refine r_goto 34 30 rfl rfl ?_
              exact r_sub [2, 3, 1, 0] rfl (k97 c1 z1_0 z1_1 c4 z4_0 z5_0 c7)
            · refine r_iconst 29 56 rfl rfl di_1 ?_
              refine r_goto 30 60 rfl rfl ?_
              refine r_istore_n (lv' := [(2, .int 1), (0, .ref a1), (1, .ref a2), (3, .int (nI m4))]) 32 61 rfl rfl (Nat.le_of_ble_eq_true rfl) rfl ?_
              refine r_iinc (v := (nI (m4 + 1))) (lv' := [(3, .int (nI (m4 + 1))), (2, .int 1), (0, .ref a1), (1, .ref a2)]) 33 64 3 rfl rfl rfl (by rw [di_1]; exact nI_add _ _) (Nat.le_of_ble_eq_true rfl) rfl ?_
              refine r_goto 34 30 rfl rfl ?_
              exact r_sub [2, 3, 1, 0] rfl (k98 c1 z1_0 z1_1 c4 z4_0 z5_0 c7)
          · show Rn G mX8_isSame 52 [(0, .ref a1), (1, .ref a2), (2, .int x3), (3, .int (nI m4))] [.int (g24 m4), .int (nI (g12 m4))] w _
            refine r_icmp_ne 28 55 59 rfl rfl rfl (fun c8 => ?_) (fun c8 => ?_)
            · refine r_iconst 31 60 rfl rfl di_0 ?_
              refine r_istore_n (lv' := [(2, .int 0), (0, .ref a1), (1, .ref a2), (3, .int (nI m4))]) 32 61 rfl rfl (Nat.le_of_ble_eq_true rfl) rfl ?_
              refine r_iinc (v := (nI (m4 + 1))) (lv' := [(3, .int (nI (m4 + 1))), (2, .int 0), (0, .ref a1), (1, .ref a2)]) 33 64 3 rfl rfl rfl (by rw [di_1]; exact nI_add _ _) (Nat.le_of_ble_eq_true rfl) rfl ?_
              refine r_goto 34 30 rfl rfl ?_
              exact r_sub [2, 3, 1, 0] rfl (k99 c1 z1_0 z1_1 c4 z4_0 z5_0 z5_1 c8)
            · refine r_iconst 29 56 rfl rfl di_1 ?_
              refine r_goto 30 60 rfl rfl ?_
              refine r_istore_n (lv' := [(2, .int 1), (0, .ref a1), (1, .ref a2), (3, .int (nI m4))]) 32 61 rfl rfl (Nat.le_of_ble_eq_true rfl) rfl ?_
              refine r_iinc (v := (nI (m4 + 1))) (lv' := [(3, .int (nI (m4 + 1))), (2, .int 1), (0, .ref a1), (1, .ref a2)]) 33 64 3 rfl rfl rfl (by rw [di_1]; exact nI_add _ _) (Nat.le_of_ble_eq_true rfl) rfl ?_
              refine r_goto 34 30 rfl rfl ?_
              exact r_sub [2, 3, 1, 0] rfl (k100 c1 z1_0 z1_1 c4 z4_0 z5_0 z5_1 c8)
          · show Rn G mX8_isSame 52 [(0, .ref a1), (1, .ref a2), (2, .int x3), (3, .int (nI m4))] [.int (nI (g22 m4)), .int (nI (g12 m4))] w _
            refine y_icmp_ne (a := (g12 m4)) (b := (g22 m4)) bd35 bd36 28 55 59 rfl rfl rfl (fun c8 => ?_) (fun c8 => ?_)
            · refine r_iconst 31 60 rfl rfl di_0 ?_
              refine r_istore_n (lv' := [(2, .int 0), (0, .ref a1), (1, .ref a2), (3, .int (nI m4))]) 32 61 rfl rfl (Nat.le_of_ble_eq_true rfl) rfl ?_
              refine r_iinc (v := (nI (m4 + 1))) (lv' := [(3, .int (nI (m4 + 1))), (2, .int 0), (0, .ref a1), (1, .ref a2)]) 33 64 3 rfl rfl rfl (by rw [di_1]; exact nI_add _ _) (Nat.le_of_ble_eq_true rfl) rfl ?_
              refine r_goto 34 30 rfl rfl ?_
              exact r_sub [2, 3, 1, 0] rfl (k101 c1 z1_0 z1_1 c4 z4_0 z5_0 z5_1 c8)
            · refine r_iconst 29 56 rfl rfl di_1 ?_
              refine r_goto 30 60 rfl rfl ?_
              refine r_istore_n (lv' := [(2, .int 1), (0, .ref a1), (1, .ref a2), (3, .int (nI m4))]) 32 61 rfl rfl (Nat.le_of_ble_eq_true rfl) rfl ?_
              refine r_iinc (v := (nI (m4 + 1))) (lv' := [(3, .int (nI (m4 + 1))), (2, .int 1), (0, .ref a1), (1, .ref a2)]) 33 64 3 rfl rfl rfl (by rw [di_1]; exact nI_add _ _) (Nat.le_of_ble_eq_true rfl) rfl ?_
              refine r_goto 34 30 rfl rfl ?_
              exact r_sub [2, 3, 1, 0] rfl (k102 c1 z1_0 z1_1 c4 z4_0 z5_0 z5_1 c8)
        · show Rn G mX8_isSame 47 [(0, .ref a1), (1, .ref a2), (2, .int x3), (3, .int (nI m4))] [.int (g14 m4)] w _
          refine r_aload_n 25 48 1 rfl rfl rfl ?_
          refine r_iload_n 26 49 3 rfl rfl rfl ?_
          refine r_callV lkV_X8_57_X8 (C := RX8) (TT := TX8) (NN := 3) rfl o21 27 52 rfl rfl (by decide) [.int (nI m4)] rfl rfl (Nat.le_of_ble_eq_true rfl) (Nat.le_of_ble_eq_true rfl) (e_X8_item hS (m2 := m4) (o1 := o21) (o2 := o22) (o3 := o23) (b4 := (b103 c1 z1_0 z1_1 c4 z4_0 z4_1)) (b5 := (b104 c1 z1_0 z1_1 c4 z4_0 z4_1)) (f6 := (f105 c1 z1_0 z1_1 c4 z4_0 z4_1)) (q7 := (q106 c1 z1_0 z1_1 c4 z4_0 z4_1)) (o9 := o24) (b10 := (b107 c1 z1_0 z1_1 c4 z4_0 z4_1)) (bd11 := (b108 c1 z1_0 z1_1 c4 z4_0 z4_1)) (b13 := (b109 c1 z1_0 z1_1 c4 z4_0 z4_1)) (b14 := (b110 c1 z1_0 z1_1 c4 z4_0 z4_1)) (f15 := (f111 c1 z1_0 z1_1 c4 z4_0 z4_1)) (q16 := (q112 c1 z1_0 z1_1 c4 z4_0 z4_1)) (k8 := fun z6_0 => ?_) (k12 := fun z6_0 => fun z6_1 => ?_) (k17 := fun z6_0 => fun z6_1 => ?_)) (fun _ _ h => h)
          · show Rn G mX8_isSame 52 [(0, .ref a1), (1, .ref a2), (2, .int x3), (3, .int (nI m4))] [.int (nI (g22 m4)), .int (g14 m4)] w _
            refine r_icmp_ne 28 55 59 rfl rfl rfl (fun c8 => ?_) (fun c8 => ?_)
            · refine r_iconst 31 60 rfl rfl di_0 ?_
              refine r_istore_n (lv' := [(2, .int 0), (0, .ref a1), (1, .ref a2), (3, .int (nI m4))]) 32 61 rfl rfl (Nat.le_of_ble_eq_true rfl) rfl ?_
              refine r_iinc (v := (nI (m4 + 1))) (lv' := [(3, .int (nI (m4 + 1))), (2, .int 0), (0, .ref a1), (1, .ref a2)]) 33 64 3 rfl rfl rfl (by rw [di_1]; exact nI_add _ _) (Nat.le_of_ble_eq_true rfl) rfl ?_
              refine r_goto 34 30 rfl rfl ?_
              exact r_sub [2, 3, 1, 0] rfl (k113 c1 z1_0 z1_1 c4 z4_0 z4_1 z6_0 c8)
            · refine r_iconst 29 56 rfl rfl di_1 ?_
              refine r_goto 30 60 rfl rfl ?_
              refine r_istore_n (lv' := [(2, .int 1), (0, .ref a1), (1, .ref a2), (3, .int (nI m4))]) 32 61 rfl rfl (Nat.le_of_ble_eq_true rfl) rfl ?_
              refine r_iinc (v := (nI (m4 + 1))) (lv' := [(3, .int (nI (m4 + 1))), (2, .int 1), (0, .ref a1), (1, .ref a2)]) 33 64 3 rfl rfl rfl (by rw [di_1]; exact nI_add _ _) (Nat.le_of_ble_eq_true rfl) rfl ?_
              refine r_goto 34 30 rfl rfl ?_
              exact r_sub [2, 3, 1, 0] rfl (k114 c1 z1_0 z1_1 c4 z4_0 z4_1 z6_0 c8)
          · show Rn G mX8_isSame 52 [(0, .ref a1), (1, .ref a2), (2, .int x3), (3, .int (nI m4))] [.int (g24 m4), .int (g14 m4)] w _
            refine r_icmp_ne 28 55 59 rfl rfl rfl (fun c9 => ?_) (fun c9 => ?_)
            · refine r_iconst 31 60 rfl rfl di_0 ?_
              refine r_istore_n (lv' := [(2, .int 0), (0, .ref a1), (1, .ref a2), (3, .int (nI m4))]) 32 61 rfl rfl (Nat.le_of_ble_eq_true rfl) rfl ?_
              refine r_iinc (v := (nI (m4 + 1))) (lv' := [(3, .int (nI (m4 + 1))), (2, .int 0), (0, .ref a1), (1, .ref a2)]) 33 64 3 rfl rfl rfl (by rw [di_1]; exact nI_add _ _) (Nat.le_of_ble_eq_true rfl) rfl ?_
              refine r_goto 34 30 rfl rfl ?_
              exact r_sub [2, 3, 1, 0] rfl (k115 c1 z1_0 z1_1 c4 z4_0 z4_1 z6_0 z6_1 c9)
            · refine r_iconst 29 56 rfl rfl di_1 ?_
              refine r_goto 30 60 rfl rfl ?_
              refine r_istore_n (lv' := [(2, .int 1), (0, .ref a1), (1, .ref a2), (3, .int (nI m4))]) 32 61 rfl rfl (Nat.le_of_ble_eq_true rfl) rfl ?_
              refine r_iinc (v := (nI (m4 + 1))) (lv' := [(3, .int (nI (m4 + 1))), (2, .int 1), (0, .ref a1), (1, .ref a2)]) 33 64 3 rfl rfl rfl (by rw [di_1]; exact nI_add _ _) (Nat.le_of_ble_eq_true rfl) rfl ?_
              refine r_goto 34 30 rfl rfl ?_
              exact r_sub [2, 3, 1, 0] rfl (k116 c1 z1_0 z1_1 c4 z4_0 z4_1 z6_0 z6_1 c9)
          · show Rn G mX8_isSame 52 [(0, .ref a1), (1, .ref a2), (2, .int x3), (3, .int (nI m4))] [.int (nI (g22 m4)), .int (g14 m4)] w _
            refine r_icmp_ne 28 55 59 rfl rfl rfl (fun c9 => ?_) (fun c9 => ?_)
            · refine r_iconst 31 60 rfl rfl di_0 ?_
              refine r_istore_n (lv' := [(2, .int 0), (0, .ref a1), (1, .ref a2), (3, .int (nI m4))]) 32 61 rfl rfl (Nat.le_of_ble_eq_true rfl) rfl ?_
              refine r_iinc (v := (nI (m4 + 1))) (lv' := [(3, .int (nI (m4 + 1))), (2, .int 0), (0, .ref a1), (1, .ref a2)]) 33 64 3 rfl rfl rfl (by rw [di_1]; exact nI_add _ _) (Nat.le_of_ble_eq_true rfl) rfl ?_
              refine r_goto 34 30 rfl rfl ?_
              exact r_sub [2, 3, 1, 0] rfl (k117 c1 z1_0 z1_1 c4 z4_0 z4_1 z6_0 z6_1 c9)
            · refine r_iconst 29 56 rfl rfl di_1 ?_
              refine r_goto 30 60 rfl rfl ?_
              refine r_istore_n (lv' := [(2, .int 1), (0, .ref a1), (1, .ref a2), (3, .int (nI m4))]) 32 61 rfl rfl (Nat.le_of_ble_eq_true rfl) rfl ?_
              refine r_iinc (v := (nI (m4 + 1))) (lv' := [(3, .int (nI (m4 + 1))), (2, .int 1), (0, .ref a1), (1, .ref a2)]) 33 64 3 rfl rfl rfl (by rw [di_1]; exact nI_add _ _) (Nat.le_of_ble_eq_true rfl) rfl ?_
              refine r_goto 34 30 rfl rfl ?_
              exact r_sub [2, 3, 1, 0] rfl (k118 c1 z1_0 z1_1 c4 z4_0 z4_1 z6_0 z6_1 c9)
        · show Rn G mX8_isSame 47 [(0, .ref a1), (1, .ref a2), (2, .int x3), (3, .int (nI m4))] [.int (nI (g12 m4))] w _
          refine r_aload_n 25 48 1 rfl rfl rfl ?_
          refine r_iload_n 26 49 3 rfl rfl rfl ?_
          refine r_callV lkV_X8_57_X8 (C := RX8) (TT := TX8) (NN := 3) rfl o21 27 52 rfl rfl (by decide) [.int (nI m4)] rfl rfl (Nat.le_of_ble_eq_true rfl) (Nat.le_of_ble_eq_true rfl) (e_X8_item hS (m2 := m4) (o1 := o21) (o2 := o22) (o3 := o23) (b4 := (b119 c1 z1_0 z1_1 c4 z4_0 z4_1)) (b5 := (b120 c1 z1_0 z1_1 c4 z4_0 z4_1)) (f6 := (f121 c1 z1_0 z1_1 c4 z4_0 z4_1)) (q7 := (q122 c1 z1_0 z1_1 c4 z4_0 z4_1)) (o9 := o24) (b10 := (b123 c1 z1_0 z1_1 c4 z4_0 z4_1)) (bd11 := (b124 c1 z1_0 z1_1 c4 z4_0 z4_1)) (b13 := (b125 c1 z1_0 z1_1 c4 z4_0 z4_1)) (b14 := (b126 c1 z1_0 z1_1 c4 z4_0 z4_1)) (f15 := (f127 c1 z1_0 z1_1 c4 z4_0 z4_1)) (q16 := (q128 c1 z1_0 z1_1 c4 z4_0 z4_1)) (k8 := fun z6_0 => ?_) (k12 := fun z6_0 => fun z6_1 => ?_) (k17 := fun z6_0 => fun z6_1 => ?_)) (fun _ _ h => h)
          · show Rn G mX8_isSame 52 [(0, .ref a1), (1, .ref a2), (2, .int x3), (3, .int (nI m4))] [.int (nI (g22 m4)), .int (nI (g12 m4))] w _
            refine y_icmp_ne (a := (g12 m4)) (b := (g22 m4)) bd35 bd36 28 55 59 rfl rfl rfl (fun c8 => ?_) (fun c8 => ?_)
            · refine r_iconst 31 60 rfl rfl di_0 ?_
              refine r_istore_n (lv' := [(2, .int 0), (0, .ref a1), (1, .ref a2), (3, .int (nI m4))]) 32 61 rfl rfl (Nat.le_of_ble_eq_true rfl) rfl ?_
              refine r_iinc (v := (nI (m4 + 1))) (lv' := [(3, .int (nI (m4 + 1))), (2, .int 0), (0, .ref a1), (1, .ref a2)]) 33 64 3 rfl rfl rfl (by rw [di_1]; exact nI_add _ _) (Nat.le_of_ble_eq_true rfl) rfl ?_
              refine r_goto 34 30 rfl rfl ?_
              exact r_sub [2, 3, 1, 0] rfl (k129 c1 z1_0 z1_1 c4 z4_0 z4_1 z6_0 c8)
            · refine r_iconst 29 56 rfl rfl di_1 ?_
              refine r_goto 30 60 rfl rfl ?_
              refine r_istore_n (lv' := [(2, .int 1), (0, .ref a1), (1, .ref a2), (3, .int (nI m4))]) 32 61 rfl rfl (Nat.le_of_ble_eq_true rfl) rfl ?_
              refine r_iinc (v := (nI (m4 + 1))) (lv' := [(3, .int (nI (m4 + 1))), (2, .int 1), (0, .ref a1), (1, .ref a2)]) 33 64 3 rfl rfl rfl (by rw [di_1]; exact nI_add _ _) (Nat.le_of_ble_eq_true rfl) rfl ?_
              refine r_goto 34 30 rfl rfl ?_
              exact r_sub [2, 3, 1, 0] rfl (k130 c1 z1_0 z1_1 c4 z4_0 z4_1 z6_0 c8)
          · show Rn G mX8_isSame 52 [(0, .ref a1), (1, .ref a2), (2, .int x3), (3, .int (nI m4))] [.int (g24 m4), .int (nI (g12 m4))] w _
            refine r_icmp_ne 28 55 59 rfl rfl rfl (fun c9 => ?_) (fun c9 => ?_)
            · refine r_iconst 31 60 rfl rfl di_0 ?_
              refine r_istore_n (lv' := [(2, .int 0), (0, .ref a1), (1, .ref a2), (3, .int (nI m4))]) 32 61 rfl rfl (Nat.le_of_ble_eq_true rfl) rfl ?_
              refine r_iinc (v := (nI (m4 + 1))) (lv' := [(3, .int (nI (m4 + 1))), (2, .int 0), (0, .ref a1), (1, .ref a2)]) 33 64 3 rfl rfl rfl (by rw [di_1]; exact nI_add _ _) (Nat.le_of_ble_eq_true rfl) rfl ?_
              refine r_goto 34 30 rfl rfl ?_
              exact r_sub [2, 3, 1, 0] rfl (k131 c1 z1_0 z1_1 c4 z4_0 z4_1 z6_0 z6_1 c9)
            · refine r_iconst 29 56 rfl rfl di_1 ?_
              refine r_goto 30 60 rfl rfl ?_
              refine r_istore_n (lv' := [(2, .int 1), (0, .ref a1), (1, .ref a2), (3, .int (nI m4))]) 32 61 rfl rfl (Nat.le_of_ble_eq_true rfl) rfl ?_
              refine r_iinc (v := (nI (m4 + 1))) (lv' := [(3, .int (nI (m4 + 1))), (2, .int 1), (0, .ref a1), (1, .ref a2)]) 33 64 3 rfl rfl rfl (by rw [di_1]; exact nI_add _ _) (Nat.le_of_ble_eq_true rfl) rfl ?_
              refine r_goto 34 30 rfl rfl ?_
              exact r_sub [2, 3, 1, 0] rfl (k132 c1 z1_0 z1_1 c4 z4_0 z4_1 z6_0 z6_1 c9)
          · show Rn G mX8_isSame 52 [(0, .ref a1), (1, .ref a2), (2, .int x3), (3, .int (nI m4))] [.int (nI (g22 m4)), .int (nI (g12 m4))] w _
            refine y_icmp_ne (a := (g12 m4)) (b := (g22 m4)) bd35 bd36 28 55 59 rfl rfl rfl (fun c9 => ?_) (fun c9 => ?_)
            · refine r_iconst 31 60 rfl rfl di_0 ?_
              refine r_istore_n (lv' := [(2, .int 0), (0, .ref a1), (1, .ref a2), (3, .int (nI m4))]) 32 61 rfl rfl (Nat.le_of_ble_eq_true rfl) rfl ?_
              refine r_iinc (v := (nI (m4 + 1))) (lv' := [(3, .int (nI (m4 + 1))), (2, .int 0), (0, .ref a1), (1, .ref a2)]) 33 64 3 rfl rfl rfl (by rw [di_1]; exact nI_add _ _) (Nat.le_of_ble_eq_true rfl) rfl ?_
              refine r_goto 34 30 rfl rfl ?_
              exact r_sub [2, 3, 1, 0] rfl (k133 c1 z1_0 z1_1 c4 z4_0 z4_1 z6_0 z6_1 c9)
            · refine r_iconst 29 56 rfl rfl di_1 ?_
              refine r_goto 30 60 rfl rfl ?_
              refine r_istore_n (lv' := [(2, .int 1), (0, .ref a1), (1, .ref a2), (3, .int (nI m4))]) 32 61 rfl rfl (Nat.le_of_ble_eq_true rfl) rfl ?_
              refine r_iinc (v := (nI (m4 + 1))) (lv' := [(3, .int (nI (m4 + 1))), (2, .int 1), (0, .ref a1), (1, .ref a2)]) 33 64 3 rfl rfl rfl (by rw [di_1]; exact nI_add _ _) (Nat.le_of_ble_eq_true rfl) rfl ?_
              refine r_goto 34 30 rfl rfl ?_
              exact r_sub [2, 3, 1, 0] rfl (k134 c1 z1_0 z1_1 c4 z4_0 z4_1 z6_0 z6_1 c9)
    · show Rn G mX8_isSame 39 [(0, .ref a1), (1, .ref a2), (2, .int x3), (3, .int (nI m4))] [.int (nI n11), .int (nI m4)] w _
      refine y_icmp_ge (a := m4) (b := n11) (by omega) (by omega) 21 42 67 rfl rfl rfl (fun c4 => ?_) (fun c4 => ?_)
      · refine r_iload_n 35 68 2 rfl rfl rfl ?_
        exact r_iret 36 rfl rfl (q135 c1 z1_0 z1_1 c4) (k136 c1 z1_0 z1_1 c4)
      · refine r_aload_n 22 43 0 rfl rfl rfl ?_
        refine r_iload_n 23 44 3 rfl rfl rfl ?_
        refine r_callV lkV_X8_57_X8 (C := RX8) (TT := TX8) (NN := 3) rfl o3 24 47 rfl rfl (by decide) [.int (nI m4)] rfl rfl (Nat.le_of_ble_eq_true rfl) (Nat.le_of_ble_eq_true rfl) (e_X8_item hS (m2 := m4) (o1 := o3) (o2 := o4) (o3 := o5) (b4 := (b137 c1 z1_0 z1_1 c4)) (b5 := (b138 c1 z1_0 z1_1 c4)) (f6 := (f139 c1 z1_0 z1_1 c4)) (q7 := (q140 c1 z1_0 z1_1 c4)) (o9 := o6) (b10 := (b141 c1 z1_0 z1_1 c4)) (bd11 := bd75) (b13 := (b142 c1 z1_0 z1_1 c4)) (b14 := (b143 c1 z1_0 z1_1 c4)) (f15 := (f144 c1 z1_0 z1_1 c4)) (q16 := (q145 c1 z1_0 z1_1 c4)) (k8 := fun z4_0 => ?_) (k12 := fun z4_0 => fun z4_1 => ?_) (k17 := fun z4_0 => fun z4_1 => ?_)) (fun _ _ h => h)
        · show Rn G mX8_isSame 47 [(0, .ref a1), (1, .ref a2), (2, .int x3), (3, .int (nI m4))] [.int (nI (g12 m4))] w _
          refine r_aload_n 25 48 1 rfl rfl rfl ?_
          refine r_iload_n 26 49 3 rfl rfl rfl ?_
          refine r_callV lkV_X8_57_X8 (C := RX8) (TT := TX8) (NN := 3) rfl o21 27 52 rfl rfl (by decide) [.int (nI m4)] rfl rfl (Nat.le_of_ble_eq_true rfl) (Nat.le_of_ble_eq_true rfl) (e_X8_item hS (m2 := m4) (o1 := o21) (o2 := o22) (o3 := o23) (b4 := (b146 c1 z1_0 z1_1 c4 z4_0)) (b5 := (b147 c1 z1_0 z1_1 c4 z4_0)) (f6 := (f148 c1 z1_0 z1_1 c4 z4_0)) (q7 := (q149 c1 z1_0 z1_1 c4 z4_0)) (o9 := o24) (b10 := (b150 c1 z1_0 z1_1 c4 z4_0)) (bd11 := (b151 c1 z1_0 z1_1 c4 z4_0)) (b13 := (b152 c1 z1_0 z1_1 c4 z4_0)) (b14 := (b153 c1 z1_0 z1_1 c4 z4_0)) (f15 := (f154 c1 z1_0 z1_1 c4 z4_0)) (q16 := (q155 c1 z1_0 z1_1 c4 z4_0)) (k8 := fun z5_0 => ?_) (k12 := fun z5_0 => fun z5_1 => ?_) (k17 := fun z5_0 => fun z5_1 => ?_)) (fun _ _ h => h)
          · show Rn G mX8_isSame 52 [(0, .ref a1), (1, .ref a2), (2, .int x3), (3, .int (nI m4))] [.int (nI (g22 m4)), .int (nI (g12 m4))] w _
            refine y_icmp_ne (a := (g12 m4)) (b := (g22 m4)) bd35 bd36 28 55 59 rfl rfl rfl (fun c7 => ?_) (fun c7 => ?_)
            · refine r_iconst 31 60 rfl rfl di_0 ?_
              refine r_istore_n (lv' := [(2, .int 0), (0, .ref a1), (1, .ref a2), (3, .int (nI m4))]) 32 61 rfl rfl (Nat.le_of_ble_eq_true rfl) rfl ?_
              refine r_iinc (v := (nI (m4 + 1))) (lv' := [(3, .int (nI (m4 + 1))), (2, .int 0), (0, .ref a1), (1, .ref a2)]) 33 64 3 rfl rfl rfl (by rw [di_1]; exact nI_add _ _) (Nat.le_of_ble_eq_true rfl) rfl ?_
              refine r_goto 34 30 rfl rfl ?_
              exact r_sub [2, 3, 1, 0] rfl (k156 c1 z1_0 z1_1 c4 z4_0 z5_0 c7)
            · refine r_iconst 29 56 rfl rfl di_1 ?_
              refine r_goto 30 60 rfl rfl ?_
              refine r_istore_n (lv' := [(2, .int 1), (0, .ref a1), (1, .ref a2), (3, .int (nI m4))]) 32 61 rfl rfl (Nat.le_of_ble_eq_true rfl) rfl ?_
              refine r_iinc (v := (nI (m4 + 1))) (lv' := [(3, .int (nI (m4 + 1))), (2, .int 1), (0, .ref a1), (1, .ref a2)]) 33 64 3 rfl rfl rfl (by rw [di_1]; exact nI_add _ _) (Nat.le_of_ble_eq_true rfl) rfl ?_
              refine r_goto 34 30 rfl rfl ?_
              exact r_sub [2, 3, 1, 0] rfl (k157 c1 z1_0 z1_1 c4 z4_0 z5_0 c7)
          · show Rn G mX8_isSame 52 [(0, .ref a1), (1, .ref a2), (2, .int x3), (3, .int (nI m4))] [.int (g24 m4), .int (nI (g12 m4))] w _
            refine r_icmp_ne 28 55 59 rfl rfl rfl (fun c8 => ?_) (fun c8 => ?_)
            · refine r_iconst 31 60 rfl rfl di_0 ?_
              refine r_istore_n (lv' := [(2, .int 0), (0, .ref a1), (1, .ref a2), (3, .int (nI m4))]) 32 61 rfl rfl (Nat.le_of_ble_eq_true rfl) rfl ?_
              refine r_iinc (v := (nI (m4 + 1))) (lv' := [(3, .int (nI (m4 + 1))), (2, .int 0), (0, .ref a1), (1, .ref a2)]) 33 64 3 rfl rfl rfl (by rw [di_1]; exact nI_add _ _) (Nat.le_of_ble_eq_true rfl) rfl ?_
              refine r_goto 34 30 rfl rfl ?_
              exact r_sub [2, 3, 1, 0] rfl (k158 c1 z1_0 z1_1 c4 z4_0 z5_0 z5_1 c8)
            · refine r_iconst 29 56 rfl rfl di_1 ?_
              refine r_goto 30 60 rfl rfl ?_
              refine r_istore_n (lv' := [(2, .int 1), (0, .ref a1), (1, .ref a2), (3, .int (nI m4))]) 32 61 rfl rfl (Nat.le_of_ble_eq_true rfl) rfl ?_
              refine r_iinc (v := (nI (m4 + 1))) (lv' := [(3, .int (nI (m4 + 1))), (2, .int 1), (0, .ref a1), (1, .ref a2)]) 33 64 3 rfl rfl rfl (by rw [di_1]; exact nI_add _ _) (Nat.le_of_ble_eq_true rfl) rfl ?_
              refine r_goto 34 30 rfl rfl ?_
              exact r_sub [2, 3, 1, 0] rfl (k159 c1 z1_0 z1_1 c4 z4_0 z5_0 z5_1 c8)
          · show Rn G mX8_isSame 52 [(0, .ref a1), (1, .ref a2), (2, .int x3), (3, .int (nI m4))] [.int (nI (g22 m4)), .int (nI (g12 m4))] w _
            refine y_icmp_ne (a := (g12 m4)) (b := (g22 m4)) bd35 bd36 28 55 59 rfl rfl rfl (fun c8 => ?_) (fun c8 => ?_)
            · refine r_iconst 31 60 rfl rfl di_0 ?_
              refine r_istore_n (lv' := [(2, .int 0), (0, .ref a1), (1, .ref a2), (3, .int (nI m4))]) 32 61 rfl rfl (Nat.le_of_ble_eq_true rfl) rfl ?_
              refine r_iinc (v := (nI (m4 + 1))) (lv' := [(3, .int (nI (m4 + 1))), (2, .int 0), (0, .ref a1), (1, .ref a2)]) 33 64 3 rfl rfl rfl (by rw [di_1]; exact nI_add _ _) (Nat.le_of_ble_eq_true rfl) rfl ?_
              refine r_goto 34 30 rfl rfl ?_
              exact r_sub [2, 3, 1, 0] rfl (k160 c1 z1_0 z1_1 c4 z4_0 z5_0 z5_1 c8)
            · refine r_iconst 29 56 rfl rfl di_1 ?_
              refine r_goto 30 60 rfl rfl ?_
              refine r_istore_n (lv' := [(2, .int 1), (0, .ref a1), (1, .ref a2), (3, .int (nI m4))]) 32 61 rfl rfl (Nat.le_of_ble_eq_true rfl) rfl ?_
              refine r_iinc (v := (nI (m4 + 1))) (lv' := [(3, .int (nI (m4 + 1))), (2, .int 1), (0, .ref a1), (1, .ref a2)]) 33 64 3 rfl rfl rfl (by rw [di_1]; exact nI_add _ _) (Nat.le_of_ble_eq_true rfl) rfl ?_
              refine r_goto 34 30 rfl rfl ?_
              exact r_sub [2, 3, 1, 0] rfl (k161 c1 z1_0 z1_1 c4 z4_0 z5_0 z5_1 c8)
        · show Rn G mX8_isSame 47 [(0, .ref a1), (1, .ref a2), (2, .int x3), (3, .int (nI m4))] [.int (g14 m4)] w _
          refine r_aload_n 25 48 1 rfl rfl rfl ?_
          refine r_iload_n 26 49 3 rfl rfl rfl ?_
          refine r_callV lkV_X8_57_X8 (C := RX8) (TT := TX8) (NN := 3) rfl o21 27 52 rfl rfl (by decide) [.int (nI m4)] rfl rfl (Nat.le_of_ble_eq_true rfl) (Nat.le_of_ble_eq_true rfl) (e_X8_item hS (m2 := m4) (o1 := o21) (o2 := o22) (o3 := o23) (b4 := (b162 c1 z1_0 z1_1 c4 z4_0 z4_1)) (b5 := (b163 c1 z1_0 z1_1 c4 z4_0 z4_1)) (f6 := (f164 c1 z1_0 z1_1 c4 z4_0 z4_1)) (q7 := (q165 c1 z1_0 z1_1 c4 z4_0 z4_1)) (o9 := o24) (b10 := (b166 c1 z1_0 z1_1 c4 z4_0 z4_1)) (bd11 := (b167 c1 z1_0 z1_1 c4 z4_0 z4_1)) (b13 := (b168 c1 z1_0 z1_1 c4 z4_0 z4_1)) (b14 := (b169 c1 z1_0 z1_1 c4 z4_0 z4_1)) (f15 := (f170 c1 z1_0 z1_1 c4 z4_0 z4_1)) (q16 := (q171 c1 z1_0 z1_1 c4 z4_0 z4_1)) (k8 := fun z6_0 => ?_) (k12 := fun z6_0 => fun z6_1 => ?_) (k17 := fun z6_0 => fun z6_1 => ?_)) (fun _ _ h => h)
          · show Rn G mX8_isSame 52 [(0, .ref a1), (1, .ref a2), (2, .int x3), (3, .int (nI m4))] [.int (nI (g22 m4)), .int (g14 m4)] w _
            refine r_icmp_ne 28 55 59 rfl rfl rfl (fun c8 => ?_) (fun c8 => ?_)
            · refine r_iconst 31 60 rfl rfl di_0 ?_
              refine r_istore_n (lv' := [(2, .int 0), (0, .ref a1), (1, .ref a2), (3, .int (nI m4))]) 32 61 rfl rfl (Nat.le_of_ble_eq_true rfl) rfl ?_
              refine r_iinc (v := (nI (m4 + 1))) (lv' := [(3, .int (nI (m4 + 1))), (2, .int 0), (0, .ref a1), (1, .ref a2)]) 33 64 3 rfl rfl rfl (by rw [di_1]; exact nI_add _ _) (Nat.le_of_ble_eq_true rfl) rfl ?_
              refine r_goto 34 30 rfl rfl ?_
              exact r_sub [2, 3, 1, 0] rfl (k172 c1 z1_0 z1_1 c4 z4_0 z4_1 z6_0 c8)
            · refine r_iconst 29 56 rfl rfl di_1 ?_
              refine r_goto 30 60 rfl rfl ?_
              refine r_istore_n (lv' := [(2, .int 1), (0, .ref a1), (1, .ref a2), (3, .int (nI m4))]) 32 61 rfl rfl (Nat.le_of_ble_eq_true rfl) rfl ?_
              refine r_iinc (v := (nI (m4 + 1))) (lv' := [(3, .int (nI (m4 + 1))), (2, .int 1), (0, .ref a1), (1, .ref a2)]) 33 64 3 rfl rfl rfl (by rw [di_1]; exact nI_add _ _) (Nat.le_of_ble_eq_true rfl) rfl ?_
              refine r_goto 34 30 rfl rfl ?_
              exact r_sub [2, 3, 1, 0] rfl (k173 c1 z1_0 z1_1 c4 z4_0 z4_1 z6_0 c8)
          · show Rn G mX8_isSame 52 [(0, .ref a1), (1, .ref a2), (2, .int x3), (3, .int (nI m4))] [.int (g24 m4), .int (g14 m4)] w _
            refine r_icmp_ne 28 55 59 rfl rfl rfl (fun c9 => ?_) (fun c9 => ?_)
            · refine r_iconst 31 60 rfl rfl di_0 ?_
              refine r_istore_n (lv' := [(2, .int 0), (0, .ref a1), (1, .ref a2), (3, .int (nI m4))]) 32 61 rfl rfl (Nat.le_of_ble_eq_true rfl) rfl ?_
              refine r_iinc (v := (nI (m4 + 1))) (lv' := [(3, .int (nI (m4 + 1))), (2, .int 0), (0, .ref a1), (1, .ref a2)]) 33 64 3 rfl rfl rfl (by rw [di_1]; exact nI_add _ _) (Nat.le_of_ble_eq_true rfl) rfl ?_
              refine r_goto 34 30 rfl rfl ?_
              exact r_sub [2, 3, 1, 0] rfl (k174 c1 z1_0 z1_1 c4 z4_0 z4_1 z6_0 z6_1 c9)
            · refine r_iconst 29 56 rfl rfl di_1 ?_
              refine r_goto 30 60 rfl rfl ?_
              refine r_istore_n (lv' := [(2, .int 1), (0, .ref a1), (1, .ref a2), (3, .int (nI m4))]) 32 61 rfl rfl (Nat.le_of_ble_eq_true rfl) rfl ?_
              refine r_iinc (v := (nI (m4 + 1))) (lv' := [(3, .int (nI (m4 + 1))), (2, .int 1), (0, .ref a1), (1, .ref a2)]) 33 64 3 rfl rfl rfl (by rw [di_1]; exact nI_add _ _) (Nat.le_of_ble_eq_true rfl) rfl ?_
              refine r_goto 34 30 rfl rfl ?_
              exact r_sub [2, 3, 1, 0] rfl (k175 c1 z1_0 z1_1 c4 z4_0 z4_1 z6_0 z6_1 c9)
          · show Rn G mX8_isSame 52 [(0, .ref a1), (1, .ref a2), (2, .int x3), (3, .int (nI m4))] [.int (nI (g22 m4)), .int (g14 m4)] w _
            refine r_icmp_ne 28 55 59 rfl rfl rfl (fun c9 => ?_) (fun c9 => ?_)
            · refine r_iconst 31 60 rfl rfl di_0 ?_
              refine r_istore_n (lv' := [(2, .int 0), (0, .ref a1), (1, .ref a2), (3, .int (nI m4))]) 32 61 rfl rfl (Nat.le_of_ble_eq_true rfl) rfl ?_
              refine r_iinc (v := (nI (m4 + 1))) (lv' := [(3, .int (nI (m4 + 1))), (2, .int 0), (0, .ref a1), (1, .ref a2)]) 33 64 3 rfl rfl rfl (by rw [di_1]; exact nI_add _ _) (Nat.le_of_ble_eq_true rfl) rfl ?_
              refine r_goto 34 30 rfl rfl ?_
              exact r_sub [2, 3, 1, 0] rfl (k176 c1 z1_0 z1_1 c4 z4_0 z4_1 z6_0 z6_1 c9)
            · refine r_iconst 29 56 rfl rfl di_1 ?_
              refine r_goto 30 60 rfl rfl ?_
              refine r_istore_n (lv' := [(2, .int 1), (0, .ref a1), (1, .ref a2), (3, .int (nI m4))]) 32 61 rfl rfl (Nat.le_of_ble_eq_true rfl) rfl ?_
              refine r_iinc (v := (nI (m4 + 1))) (lv' := [(3, .int (nI (m4 + 1))), (2, .int 1), (0, .ref a1), (1, .ref a2)]) 33 64 3 rfl rfl rfl (by rw [di_1]; exact nI_add _ _) (Nat.le_of_ble_eq_true rfl) rfl ?_
              refine r_goto 34 30 rfl rfl ?_
              exact r_sub [2, 3, 1, 0] rfl (k177 c1 z1_0 z1_1 c4 z4_0 z4_1 z6_0 z6_1 c9)
        · show Rn G mX8_isSame 47 [(0, .ref a1), (1, .ref a2), (2, .int x3), (3, .int (nI m4))] [.int (nI (g12 m4))] w _
          refine r_aload_n 25 48 1 rfl rfl rfl ?_
          refine r_iload_n 26 49 3 rfl rfl rfl ?_
          refine r_callV lkV_X8_57_X8 (C := RX8) (TT := TX8) (NN := 3) rfl o21 27 52 rfl rfl (by decide) [.int (nI m4)] rfl rfl (Nat.le_of_ble_eq_true rfl) (Nat.le_of_ble_eq_true rfl) (e_X8_item hS (m2 := m4) (o1 := o21) (o2 := o22) (o3 := o23) (b4 := (b178 c1 z1_0 z1_1 c4 z4_0 z4_1)) (b5 := (b179 c1 z1_0 z1_1 c4 z4_0 z4_1)) (f6 := (f180 c1 z1_0 z1_1 c4 z4_0 z4_1)) (q7 := (q181 c1 z1_0 z1_1 c4 z4_0 z4_1)) (o9 := o24) (b10 := (b182 c1 z1_0 z1_1 c4 z4_0 z4_1)) (bd11 := (b183 c1 z1_0 z1_1 c4 z4_0 z4_1)) (b13 := (b184 c1 z1_0 z1_1 c4 z4_0 z4_1)) (b14 := (b185 c1 z1_0 z1_1 c4 z4_0 z4_1)) (f15 := (f186 c1 z1_0 z1_1 c4 z4_0 z4_1)) (q16 := (q187 c1 z1_0 z1_1 c4 z4_0 z4_1)) (k8 := fun z6_0 => ?_) (k12 := fun z6_0 => fun z6_1 => ?_) (k17 := fun z6_0 => fun z6_1 => ?_)) (fun _ _ h => h)
          · show Rn G mX8_isSame 52 [(0, .ref a1), (1, .ref a2), (2, .int x3), (3, .int (nI m4))] [.int (nI (g22 m4)), .int (nI (g12 m4))] w _
            refine y_icmp_ne (a := (g12 m4)) (b := (g22 m4)) bd35 bd36 28 55 59 rfl rfl rfl (fun c8 => ?_) (fun c8 => ?_)
            · refine r_iconst 31 60 rfl rfl di_0 ?_
              refine r_istore_n (lv' := [(2, .int 0), (0, .ref a1), (1, .ref a2), (3, .int (nI m4))]) 32 61 rfl rfl (Nat.le_of_ble_eq_true rfl) rfl ?_
              refine r_iinc (v := (nI (m4 + 1))) (lv' := [(3, .int (nI (m4 + 1))), (2, .int 0), (0, .ref a1), (1, .ref a2)]) 33 64 3 rfl rfl rfl (by rw [di_1]; exact nI_add _ _) (Nat.le_of_ble_eq_true rfl) rfl ?_
              refine r_goto 34 30 rfl rfl ?_
              exact r_sub [2, 3, 1, 0] rfl (k188 c1 z1_0 z1_1 c4 z4_0 z4_1 z6_0 c8)
            · refine r_iconst 29 56 rfl rfl di_1 ?_
              refine r_goto 30 60 rfl rfl ?_
              refine r_istore_n (lv' := [(2, .int 1), (0, .ref a1), (1, .ref a2), (3, .int (nI m4))]) 32 61 rfl rfl (Nat.le_of_ble_eq_true rfl) rfl ?_
              refine r_iinc (v := (nI (m4 + 1))) (lv' := [(3, .int (nI (m4 + 1))), (2, .int 1), (0, .ref a1), (1, .ref a2)]) 33 64 3 rfl rfl rfl (by rw [di_1]; exact nI_add _ _) (Nat.le_of_ble_eq_true rfl) rfl ?_
              refine r_goto 34 30 rfl rfl ?_
              exact r_sub [2, 3, 1, 0] rfl (k189 c1 z1_0 z1_1 c4 z4_0 z4_1 z6_0 c8)
          · show Rn G mX8_isSame 52 [(0, .ref a1), (1, .ref a2), (2, .int x3), (3, .int (nI m4))] [.int (g24 m4), .int (nI (g12 m4))] w _
            refine r_icmp_ne 28 55 59 rfl rfl rfl (fun c9 => ?_) (fun c9 => ?_)
            · refine r_iconst 31 60 rfl rfl di_0 ?_
              refine r_istore_n (lv' := [(2, .int 0), (0, .ref a1), (1, .ref a2), (3, .int (nI m4))]) 32 61 rfl rfl (Nat.le_of_ble_eq_true rfl) rfl ?_
              refine r_iinc (v := (nI (m4 + 1))) (lv' := [(3, .int (nI (m4 + 1))), (2, .int 0), (0, .ref a1), (1, .ref a2)]) 33 64 3 rfl rfl rfl (by rw [di_1]; exact nI_add _ _) (Nat.le_of_ble_eq_true rfl) rfl ?_
              refine r_goto 34 30 rfl rfl ?_
              exact r_sub [2, 3, 1, 0] rfl (k190 c1 z1_0 z1_1 c4 z4_0 z4_1 z6_0 z6_1 c9)
            · refine r_iconst 29 56 rfl rfl di_1 ?_
              refine r_goto 30 60 rfl rfl ?_
              refine r_istore_n (lv' := [(2, .int 1), (0, .ref a1), (1, .ref a2), (3, .int (nI m4))]) 32 61 rfl rfl (Nat.le_of_ble_eq_true rfl) rfl ?_
              refine r_iinc (v := (nI (m4 + 1))) (lv' := [(3, .int (nI (m4 + 1))), (2, .int 1), (0, .ref a1), (1, .ref a2)]) 33 64 3 rfl rfl rfl (by rw [di_1]; exact nI_add _ _) (Nat.le_of_ble_eq_true rfl) rfl ?_
              refine r_goto 34 30 rfl rfl ?_
              exact r_sub [2, 3, 1, 0] rfl (k191 c1 z1_0 z1_1 c4 z4_0 z4_1 z6_0 z6_1 c9)
          · show Rn G mX8_isSame 52 [(0, .ref a1), (1, .ref a2), (2, .int x3), (3, .int (nI m4))] [.int (nI (g22 m4)), .int (nI (g12 m4))] w _
            refine y_icmp_ne (a := (g12 m4)) (b := (g22 m4)) bd35 bd36 28 55 59 rfl rfl rfl (fun c9 => ?_) (fun c9 => ?_)
            · refine r_iconst 31 60 rfl rfl di_0 ?_
              refine r_istore_n (lv' := [(2, .int 0), (0, .ref a1), (1, .ref a2), (3, .int (nI m4))]) 32 61 rfl rfl (Nat.le_of_ble_eq_true rfl) rfl ?_
              refine r_iinc (v := (nI (m4 + 1))) (lv' := [(3, .int (nI (m4 + 1))), (2, .int 0), (0, .ref a1), (1, .ref a2)]) 33 64 3 rfl rfl rfl (by rw [di_1]; exact nI_add _ _) (Nat.le_of_ble_eq_true rfl) rfl ?_
              refine r_goto 34 30 rfl rfl ?_
              exact r_sub [2, 3, 1, 0] rfl (k192 c1 z1_0 z1_1 c4 z4_0 z4_1 z6_0 z6_1 c9)
            · refine r_iconst 29 56 rfl rfl di_1 ?_
              refine r_goto 30 60 rfl rfl ?_
              refine r_istore_n (lv' := [(2, .int 1), (0, .ref a1), (1, .ref a2), (3, .int (nI m4))]) 32 61 rfl rfl (Nat.le_of_ble_eq_true rfl) rfl ?_
              refine r_iinc (v := (nI (m4 + 1))) (lv' := [(3, .int (nI (m4 + 1))), (2, .int 1), (0, .ref a1), (1, .ref a2)]) 33 64 3 rfl rfl rfl (by rw [di_1]; exact nI_add _ _) (Nat.le_of_ble_eq_true rfl) rfl ?_
              refine r_goto 34 30 rfl rfl ?_
              exact r_sub [2, 3, 1, 0] rfl (k193 c1 z1_0 z1_1 c4 z4_0 z4_1 z6_0 z6_1 c9)
theorem e_X8_moved {G : Gm} {κ : Nat → Nat} {φ : Nat → Option Nat} (hS : GS G κ φ) {w : Wd} {Q : Rs → Wd → Prop} {a1 : Nat} {a2 : Nat} {a3 : Nat} {a4 : Nat} {a5 : Nat} {n6 : Nat} {g7 : Nat → Int32} (o1 : Lk G w a1 (.inl (nX8, [.ref a3, .ref a4, .ref a5]))) (o2 : Lk G w a5 (arI .int n6 g7)) (b3 : a3 = (κ 12) → n6 ≤ 100000000) (hg4 : (12 + n6) ≤ w.2.2) (k5 : a3 = (κ 12) → Rn G mX8_moved 19 [(0, .ref a1), (1, .ref a2), (2, .ref w.2.1), (3, .int 0)] [] (wnew w (arI .int n6 (fun _ => 0)) n6) Q) (k6 : ¬ a3 = (κ 12) → ¬ a3 = (κ 14) → Q (.inl (some (.ref a1))) w) (b7 : ¬ a3 = (κ 12) → a3 = (κ 14) → n6 ≤ 100000000) (k8 : ¬ a3 = (κ 12) → a3 = (κ 14) → Rn G mX8_moved 19 [(0, .ref a1), (1, .ref a2), (2, .ref w.2.1), (3, .int 0)] [] (wnew w (arI .int n6 (fun _ => 0)) n6) Q) : Ev G mX8_moved [.ref a1, .ref a2] w Q := by
  show Rn G mX8_moved 0 [(0, .ref a1), (1, .ref a2)] [] w Q
  refine r_aload_n 0 1 0 rfl rfl rfl ?_
  refine r_callV lkV_X8_61_X8 (C := RX8) (TT := TX8) (NN := 3) rfl o1 1 4 rfl rfl (by decide) [] rfl rfl (Nat.le_of_ble_eq_true rfl) (Nat.le_of_ble_eq_true rfl) (e_X8_refers hS (o1 := o1) (k2 := fun z0_0 => ?_) (k3 := fun z0_0 => fun z0_1 => ?_) (k4 := fun z0_0 => fun z0_1 => ?_)) (fun _ _ h => h)
  · show Rn G mX8_moved 4 [(0, .ref a1), (1, .ref a2)] [.int 1] w _
    refine r_if_ne 2 7 9 rfl rfl rfl (fun _ => ?_) (fun c => absurd c (by decide))
    refine r_aload_n 5 10 0 rfl rfl rfl ?_
    refine r_get (v := .ref a5) fl_X8_17_X8 6 13 rfl rfl o1 rfl ?_
    refine r_alen 7 14 rfl rfl o2 ?_
    refine y_newI (n := n6) 8 16 rfl rfl (b3 z0_0) (by have := hg4; show 12 + n6 ≤ w.2.2; omega) ?_
    show Rn G mX8_moved 16 [(0, .ref a1), (1, .ref a2)] [.ref w.2.1] (wnew w (arI .int n6 (fun _ => 0)) n6) _
    refine r_astore_n (lv' := [(2, .ref w.2.1), (0, .ref a1), (1, .ref a2)]) 9 17 rfl rfl (Nat.le_of_ble_eq_true rfl) rfl ?_
    refine r_iconst 10 18 rfl rfl di_0 ?_
    refine r_istore_n (lv' := [(3, .int 0), (2, .ref w.2.1), (0, .ref a1), (1, .ref a2)]) 11 19 rfl rfl (Nat.le_of_ble_eq_true rfl) rfl ?_
    exact r_sub [2, 3, 1, 0] rfl (k5 z0_0)
  · show Rn G mX8_moved 4 [(0, .ref a1), (1, .ref a2)] [.int 0] w _
    refine r_if_ne 2 7 9 rfl rfl rfl (fun c => absurd c (by decide)) (fun _ => ?_)
    refine r_aload_n 3 8 0 rfl rfl rfl ?_
    exact r_aret 4 rfl rfl (Or.inl ⟨_, rfl⟩) (Or.inr ⟨_, rfl⟩) (k6 z0_0 z0_1)
  · show Rn G mX8_moved 4 [(0, .ref a1), (1, .ref a2)] [.int 1] w _
    refine r_if_ne 2 7 9 rfl rfl rfl (fun _ => ?_) (fun c => absurd c (by decide))
    refine r_aload_n 5 10 0 rfl rfl rfl ?_
    refine r_get (v := .ref a5) fl_X8_17_X8 6 13 rfl rfl o1 rfl ?_
    refine r_alen 7 14 rfl rfl o2 ?_
    refine y_newI (n := n6) 8 16 rfl rfl (b7 z0_0 z0_1) (by have := hg4; show 12 + n6 ≤ w.2.2; omega) ?_
    show Rn G mX8_moved 16 [(0, .ref a1), (1, .ref a2)] [.ref w.2.1] (wnew w (arI .int n6 (fun _ => 0)) n6) _
    refine r_astore_n (lv' := [(2, .ref w.2.1), (0, .ref a1), (1, .ref a2)]) 9 17 rfl rfl (Nat.le_of_ble_eq_true rfl) rfl ?_
    refine r_iconst 10 18 rfl rfl di_0 ?_
    refine r_istore_n (lv' := [(3, .int 0), (2, .ref w.2.1), (0, .ref a1), (1, .ref a2)]) 11 19 rfl rfl (Nat.le_of_ble_eq_true rfl) rfl ?_
    exact r_sub [2, 3, 1, 0] rfl (k8 z0_0 z0_1)
theorem e_X8_moved_19 {G : Gm} {κ : Nat → Nat} {φ : Nat → Option Nat} (hS : GS G κ φ) {w : Wd} {Q : Rs → Wd → Prop} {a1 : Nat} {a2 : Nat} {a3 : Nat} {m4 : Nat} {a5 : Nat} {a6 : Nat} {a7 : Nat} {n8 : Nat} {g9 : Nat → Int32} {m10 : Nat} {n11 : Nat} {g12 : Nat → Int32} {n13 : Nat} {g14 : Nat → Int32} (o1 : Lk G w a1 (.inl (nX8, [.ref a5, .ref a6, .ref a7]))) (o2 : Lk G w a7 (arI .int n8 g9)) (bd3 : m4 < 2 ^ 31) (bd4 : n8 < 2 ^ 31) (hg : 15 ≤ w.2.2) (k5 : n8 ≤ m4 → Q (.inl (some (.ref w.2.1))) (wset (wnew w (.inl (nX8, [.null, .null, .null])) 3) w.2.1 (.inl (nX8, [.ref a5, .ref a6, .ref a3])))) (q6 : ¬ n8 ≤ m4 → (g9 m4) = nI m10) (o7 : Lk G w a2 (arI .int n11 g12)) (b8 : ¬ n8 ≤ m4 → m10 < n11) (bd9 : n11 < 2 ^ 31) (o10 : w.1 a3 = some (arI .int n13 g14)) (b11 : ¬ n8 ≤ m4 → m4 < n13) (bd12 : n13 < 2 ^ 31) (k13 : ¬ n8 ≤ m4 → Rn G mX8_moved 19 [(0, .ref a1), (1, .ref a2), (2, .ref a3), (3, .int (nI (m4 + 1)))] [] (wset w a3 (arI .int n13 (upF g14 m4 (g12 m10)))) Q) : Rn G mX8_moved 19 [(0, .ref a1), (1, .ref a2), (2, .ref a3), (3, .int (nI m4))] [] w Q := by
  refine Rn.wok fun hwk => ?_
  refine r_iload_n 12 20 3 rfl rfl rfl ?_
  refine r_aload_n 13 21 0 rfl rfl rfl ?_
  refine r_get (v := .ref a7) fl_X8_17_X8 14 24 rfl rfl o1 rfl ?_
  refine r_alen 15 25 rfl rfl o2 ?_
  refine y_icmp_ge (a := m4) (b := n8) bd3 bd4 16 28 45 rfl rfl rfl (fun c1 => ?_) (fun c1 => ?_)
  · refine r_new (fs := [.null, .null, .null]) (ty := tyX8) (T := TX8) (C := RX8) (N := 3) (ci := nX8) (n := 3) 28 48 rfl rfl rfl in_X8 tyX8_ok q1273 q1236 q99 rfl (by decide) (by show 12 + 3 ≤ w.2.2; omega) ?_
    show Rn G mX8_moved 48 [(0, .ref a1), (1, .ref a2), (2, .ref a3), (3, .int (nI m4))] [.ref w.2.1] (wnew w (.inl (nX8, [.null, .null, .null])) 3) _
    refine r_dup 29 49 rfl rfl rfl ?_
    refine r_aload_n 30 50 0 rfl rfl rfl ?_
    refine r_get (v := .ref a5) fl_X8_7_X8 31 53 rfl rfl (Lk.new_n o1 (by have := (o1.lt hwk); show a1 < w.2.1; omega)) rfl ?_
    refine r_aload_n 32 54 0 rfl rfl rfl ?_
    refine r_get (v := .ref a6) fl_X8_13_X8 33 57 rfl rfl (Lk.new_n o1 (by have := (o1.lt hwk); show a1 < w.2.1; omega)) rfl ?_
    refine r_aload_n 34 58 2 rfl rfl rfl ?_
    refine r_callI lkI_X8_23 35 61 rfl rfl (by decide) [.ref a5, .ref a6, .ref a3] rfl rfl (Nat.le_of_ble_eq_true rfl) (Nat.le_of_ble_eq_true rfl) (e_X8_init hS (o1 := wnew_s) (k2 := ?_)) (fun _ _ h => h)
    show Rn G mX8_moved 61 [(0, .ref a1), (1, .ref a2), (2, .ref a3), (3, .int (nI m4))] [.ref w.2.1] (wset (wnew w (.inl (nX8, [.null, .null, .null])) 3) w.2.1 (.inl (nX8, [.ref a5, .ref a6, .ref a3]))) _
    exact r_aret 36 rfl rfl (Or.inl ⟨_, rfl⟩) (Or.inr ⟨_, rfl⟩) (k5 c1)
  · refine r_aload_n 17 29 2 rfl rfl rfl ?_
    refine r_iload_n 18 30 3 rfl rfl rfl ?_
    refine r_aload_n 19 31 1 rfl rfl rfl ?_
    refine r_aload_n 20 32 0 rfl rfl rfl ?_
    refine r_get (v := .ref a7) fl_X8_17_X8 21 35 rfl rfl o1 rfl ?_
    refine r_iload_n 22 36 3 rfl rfl rfl ?_
    refine y_iald (i := m4) 23 37 rfl rfl o2 (by omega) (by omega) ?_
    refine x_eq (q6 c1) ?_
    refine y_iald (i := m10) 24 38 rfl rfl o7 (b8 c1) bd9 ?_
    refine y_iast (i := m4) 25 39 rfl rfl o10 (b11 c1) bd12 ?_
    show Rn G mX8_moved 39 [(0, .ref a1), (1, .ref a2), (2, .ref a3), (3, .int (nI m4))] [] (wset w a3 (arI .int n13 (upF g14 m4 (g12 m10)))) _
    refine r_iinc (v := (nI (m4 + 1))) (lv' := [(3, .int (nI (m4 + 1))), (0, .ref a1), (1, .ref a2), (2, .ref a3)]) 26 42 3 rfl rfl rfl (by rw [di_1]; exact nI_add _ _) (Nat.le_of_ble_eq_true rfl) rfl ?_
    refine r_goto 27 19 rfl rfl ?_
    exact r_sub [1, 2, 3, 0] rfl (k13 c1)
theorem e_X8_write {G : Gm} {κ : Nat → Nat} {φ : Nat → Option Nat} (hS : GS G κ φ) {w : Wd} {Q : Rs → Wd → Prop} {a1 : Nat} {a2 : Nat} {a3 : Nat} {a4 : Nat} {a5 : Nat} {m6 : Nat} {a7 : Nat} {x8 : Int32} {m9 : Nat} (o1 : Lk G w a1 (.inl (nX8, [.ref a3, .ref a4, .ref a5]))) (o2 : Lk G w a3 (.inl (nX6, [.int (nI m6)]))) (bd3 : m6 < 2 ^ 31) (o4 : Lk G w a2 (.inl (nJ1, [.ref a7, .int 0, .int x8, .int (nI m9)]))) {Q5 : Rs → Wd → Prop} (e5 : m6 = 1 → Ev G mJ1_append_3 [.ref a2, .int 39] w Q5) (k5 : m6 = 1 → ∀ r w', Q5 r w' → Af G mX8_write 43 46 [(0, .ref a1), (1, .ref a2)] [] r w' Q) {Q6 : Rs → Wd → Prop} (e6 : ¬ m6 = 1 → m6 = 5 → Ev G mJ1_append_3 [.ref a2, .int 46] w Q6) (k6 : ¬ m6 = 1 → m6 = 5 → ∀ r w', Q6 r w' → Af G mX8_write 112 115 [(0, .ref a1)] [] r w' Q) {Q7 : Rs → Wd → Prop} (e7 : ¬ m6 = 1 → ¬ m6 = 5 → m6 = 6 → Ev G mJ1_append_3 [.ref a2, .int 36] w Q7) (k7 : ¬ m6 = 1 → ¬ m6 = 5 → m6 = 6 → ∀ r w', Q7 r w' → Af G mX8_write 134 137 [] [] r w' Q) {Q8 : Rs → Wd → Prop} (e8 : ¬ m6 = 1 → ¬ m6 = 5 → ¬ m6 = 6 → a3 = (κ 13) → Ev G mJ1_append_2 [.ref a2, .ref (κ 21)] w Q8) (k8 : ¬ m6 = 1 → ¬ m6 = 5 → ¬ m6 = 6 → a3 = (κ 13) → ∀ r w', Q8 r w' → Af G mX8_write 179 182 [(0, .ref a1), (1, .ref a2), (2, .int 1)] [] r w' Q) {Q9 : Rs → Wd → Prop} (e9 : ¬ m6 = 1 → ¬ m6 = 5 → ¬ m6 = 6 → ¬ a3 = (κ 13) → ¬ a3 = (κ 14) → Ev G mJ1_append_2 [.ref a2, .ref (κ 20)] w Q9) (k9 : ¬ m6 = 1 → ¬ m6 = 5 → ¬ m6 = 6 → ¬ a3 = (κ 13) → ¬ a3 = (κ 14) → ∀ r w', Q9 r w' → Af G mX8_write 179 182 [(0, .ref a1), (1, .ref a2), (2, .int 0)] [] r w' Q) {Q10 : Rs → Wd → Prop} (e10 : ¬ m6 = 1 → ¬ m6 = 5 → ¬ m6 = 6 → ¬ a3 = (κ 13) → a3 = (κ 14) → Ev G mJ1_append_2 [.ref a2, .ref (κ 21)] w Q10) (k10 : ¬ m6 = 1 → ¬ m6 = 5 → ¬ m6 = 6 → ¬ a3 = (κ 13) → a3 = (κ 14) → ∀ r w', Q10 r w' → Af G mX8_write 179 182 [(0, .ref a1), (1, .ref a2), (2, .int 1)] [] r w' Q) : Ev G mX8_write [.ref a1, .ref a2] w Q := by
  show Rn G mX8_write 0 [(0, .ref a1), (1, .ref a2)] [] w Q
  refine r_aload_n 0 1 0 rfl rfl rfl ?_
  refine r_get (v := .ref a3) fl_X8_7_X8 1 4 rfl rfl o1 rfl ?_
  refine r_callU lkU_X8_64_X6 (C := RX6) (TT := TX6) (NN := 1) rfl o2 2 7 rfl rfl (by decide) [] rfl rfl (Nat.le_of_ble_eq_true rfl) (Nat.le_of_ble_eq_true rfl) (e_J24_ordinal hS (m2 := m6) (o1 := o2) (k2 := ?_)) (fun _ _ h => h)
  show Rn G mX8_write 7 [(0, .ref a1), (1, .ref a2)] [.int (nI m6)] w _
  by_cases c1 : m6 = 1
  · refine r_lookup (off := 33) 3 40 rfl (by decide) (by rw [c1]; decide) rfl ?_
    refine r_aload_n 4 41 1 rfl rfl rfl ?_
    refine r_bipush 5 43 rfl rfl db_39 ?_
    exact r_callV lkV_X8_67_J1 (C := RJ1) (TT := TJ1) (NN := 4) rfl o4 6 46 rfl rfl (by decide) [.int 39] rfl rfl (Nat.le_of_ble_eq_true rfl) (Nat.le_of_ble_eq_true rfl) (e5 c1) (fun r w' h => Af.sub [0, 1] rfl ((k5 c1) r w' h))
  by_cases c2 : m6 = 5
  · refine r_lookup (off := 102) 3 109 rfl (by decide) (by rw [c2]; decide) rfl ?_
    refine r_aload_n 39 110 1 rfl rfl rfl ?_
    refine r_bipush 40 112 rfl rfl db_46 ?_
    exact r_callV lkV_X8_67_J1 (C := RJ1) (TT := TJ1) (NN := 4) rfl o4 41 115 rfl rfl (by decide) [.int 46] rfl rfl (Nat.le_of_ble_eq_true rfl) (Nat.le_of_ble_eq_true rfl) (e6 c1 c2) (fun r w' h => Af.sub [0] rfl ((k6 c1 c2) r w' h))
  by_cases c3 : m6 = 6
  · refine r_lookup (off := 124) 3 131 rfl (by decide) (by rw [c3]; decide) rfl ?_
    refine r_aload_n 49 132 1 rfl rfl rfl ?_
    refine r_bipush 50 134 rfl rfl db_36 ?_
    exact r_callV lkV_X8_67_J1 (C := RJ1) (TT := TJ1) (NN := 4) rfl o4 51 137 rfl rfl (by decide) [.int 36] rfl rfl (Nat.le_of_ble_eq_true rfl) (Nat.le_of_ble_eq_true rfl) (e7 c1 c2 c3) (fun r w' h => Af.sub [] rfl ((k7 c1 c2 c3) r w' h))
  refine sw_X8_write_7 (fun h => c1 ((nI_eq bd3 (by decide)).mp h)) (fun h => c2 ((nI_eq bd3 (by decide)).mp h)) (fun h => c3 ((nI_eq bd3 (by decide)).mp h)) ?_
  refine r_aload_n 54 142 0 rfl rfl rfl ?_
  refine r_get (v := .ref a3) fl_X8_7_X8 55 145 rfl rfl o1 rfl ?_
  refine r_gets (v := .ref (κ 13)) (hS 13).1 q1518 56 148 rfl rfl ?_
  refine r_acmp_eq (rx := (some a3)) (ry := (some (κ 13))) 57 151 161 rfl rfl rfl rfl rfl (fun c4 => ?_) (fun c4 => ?_)
  · refine r_iconst 62 162 rfl rfl di_1 ?_
    refine r_goto 63 166 rfl rfl ?_
    refine r_istore_n (lv' := [(2, .int 1), (0, .ref a1), (1, .ref a2)]) 65 167 rfl rfl (Nat.le_of_ble_eq_true rfl) rfl ?_
    refine r_aload_n 66 168 2 rfl rfl rfl ?_
    refine r_iload_n 67 169 0 rfl rfl rfl ?_
    refine r_if_eq 68 172 177 rfl rfl rfl (fun c => absurd c (by decide)) (fun _ => ?_)
    refine r_ldcS (tx := "(") (a := κ 21) (hS 21).1 69 174 rfl rfl ?_
    refine r_goto 70 179 rfl rfl ?_
    exact r_callV lkV_X8_73_J1 (C := RJ1) (TT := TJ1) (NN := 4) rfl o4 72 182 rfl rfl (by decide) [.ref (κ 21)] rfl rfl (Nat.le_of_ble_eq_true rfl) (Nat.le_of_ble_eq_true rfl) (e8 c1 c2 c3 (Option.some.inj c4)) (fun r w' h => Af.sub [1, 2, 0] rfl ((k8 c1 c2 c3 (Option.some.inj c4)) r w' h))
  · refine r_aload_n 58 152 0 rfl rfl rfl ?_
    refine r_get (v := .ref a3) fl_X8_7_X8 59 155 rfl rfl o1 rfl ?_
    refine r_gets (v := .ref (κ 14)) (hS 14).1 q1408 60 158 rfl rfl ?_
    refine r_acmp_ne (rx := (some a3)) (ry := (some (κ 14))) 61 161 165 rfl rfl rfl rfl rfl (fun c5 => ?_) (fun c5 => ?_)
    · refine r_iconst 64 166 rfl rfl di_0 ?_
      refine r_istore_n (lv' := [(2, .int 0), (0, .ref a1), (1, .ref a2)]) 65 167 rfl rfl (Nat.le_of_ble_eq_true rfl) rfl ?_
      refine r_aload_n 66 168 2 rfl rfl rfl ?_
      refine r_iload_n 67 169 0 rfl rfl rfl ?_
      refine r_if_eq 68 172 177 rfl rfl rfl (fun _ => ?_) (fun c => absurd c (by decide))
      refine r_ldcS (tx := "") (a := κ 20) (hS 20).1 71 179 rfl rfl ?_
      exact r_callV lkV_X8_73_J1 (C := RJ1) (TT := TJ1) (NN := 4) rfl o4 72 182 rfl rfl (by decide) [.ref (κ 20)] rfl rfl (Nat.le_of_ble_eq_true rfl) (Nat.le_of_ble_eq_true rfl) (e9 c1 c2 c3 (fun h => c4 (congrArg some h)) (fun h => c5 (congrArg some h))) (fun r w' h => Af.sub [1, 2, 0] rfl ((k9 c1 c2 c3 (fun h => c4 (congrArg some h)) (fun h => c5 (congrArg some h))) r w' h))
    · refine r_iconst 62 162 rfl rfl di_1 ?_
      refine r_goto 63 166 rfl rfl ?_
      refine r_istore_n (lv' := [(2, .int 1), (0, .ref a1), (1, .ref a2)]) 65 167 rfl rfl (Nat.le_of_ble_eq_true rfl) rfl ?_
      refine r_aload_n 66 168 2 rfl rfl rfl ?_
      refine r_iload_n 67 169 0 rfl rfl rfl ?_
      refine r_if_eq 68 172 177 rfl rfl rfl (fun c => absurd c (by decide)) (fun _ => ?_)
      refine r_ldcS (tx := "(") (a := κ 21) (hS 21).1 69 174 rfl rfl ?_
      refine r_goto 70 179 rfl rfl ?_
      exact r_callV lkV_X8_73_J1 (C := RJ1) (TT := TJ1) (NN := 4) rfl o4 72 182 rfl rfl (by decide) [.ref (κ 21)] rfl rfl (Nat.le_of_ble_eq_true rfl) (Nat.le_of_ble_eq_true rfl) (e10 c1 c2 c3 (fun h => c4 (congrArg some h)) (Option.some.inj c5)) (fun r w' h => Af.sub [1, 2, 0] rfl ((k10 c1 c2 c3 (fun h => c4 (congrArg some h)) (Option.some.inj c5)) r w' h))
theorem e_X8_write_46 {G : Gm} {κ : Nat → Nat} {φ : Nat → Option Nat} (hS : GS G κ φ) {w : Wd} {Q : Rs → Wd → Prop} {a1 : Nat} {a2 : Nat} {a3 : Nat} (k1 : Rn G mX8_write 49 [(0, .ref a1), (1, .ref a2), (2, .int 0)] [] w Q) : Rn G mX8_write 46 [(0, .ref a1), (1, .ref a2)] [.ref a3] w Q := by
  refine r_pop 7 47 rfl rfl rfl ?_
  refine r_iconst 8 48 rfl rfl di_0 ?_
  refine r_istore_n (lv' := [(2, .int 0), (0, .ref a1), (1, .ref a2)]) 9 49 rfl rfl (Nat.le_of_ble_eq_true rfl) rfl ?_
  exact r_sub [1, 2, 0] rfl k1
theorem e_X8_write_115 {G : Gm} {κ : Nat → Nat} {φ : Nat → Option Nat} (hS : GS G κ φ) {w : Wd} {Q : Rs → Wd → Prop} {a1 : Nat} {a2 : Nat} {a3 : Nat} {a4 : Nat} {a5 : Nat} {a6 : Nat} {x7 : Int32} {m8 : Nat} (o1 : Lk G w a1 (.inl (nX8, [.ref a3, .ref a4, .ref a5]))) (o2 : Lk G w a2 (.inl (nJ1, [.ref a6, .int 0, .int x7, .int (nI m8)]))) {Q3 : Rs → Wd → Prop} (e3 : Ev G mJ1_append_2 [.ref a2, .ref a4] w Q3) (k3 : ∀ r w', Q3 r w' → Af G mX8_write 119 122 [] [] r w' Q) : Rn G mX8_write 115 [(0, .ref a1)] [.ref a2] w Q := by
  refine r_aload_n 42 116 0 rfl rfl rfl ?_
  refine r_get (v := .ref a4) fl_X8_13_X8 43 119 rfl rfl o1 rfl ?_
  exact r_callV lkV_X8_73_J1 (C := RJ1) (TT := TJ1) (NN := 4) rfl o2 44 122 rfl rfl (by decide) [.ref a4] rfl rfl (Nat.le_of_ble_eq_true rfl) (Nat.le_of_ble_eq_true rfl) e3 (fun r w' h => Af.sub [] rfl (k3 r w' h))
theorem e_X8_write_137 {G : Gm} {κ : Nat → Nat} {φ : Nat → Option Nat} (hS : GS G κ φ) {w : Wd} {Q : Rs → Wd → Prop} {a1 : Nat} (k1 : Q (.inl none) w) : Rn G mX8_write 137 [] [.ref a1] w Q := by
  refine r_pop 52 138 rfl rfl rfl ?_
  refine r_goto 53 258 rfl rfl ?_
  exact r_vret 111 rfl rfl k1
theorem e_X8_write_182 {G : Gm} {κ : Nat → Nat} {φ : Nat → Option Nat} (hS : GS G κ φ) {w : Wd} {Q : Rs → Wd → Prop} {a1 : Nat} {a2 : Nat} {x3 : Int32} {a4 : Nat} (k1 : Rn G mX8_write 185 [(0, .ref a1), (1, .ref a2), (2, .int x3), (3, .int 0)] [] w Q) : Rn G mX8_write 182 [(0, .ref a1), (1, .ref a2), (2, .int x3)] [.ref a4] w Q := by
  refine r_pop 73 183 rfl rfl rfl ?_
  refine r_iconst 74 184 rfl rfl di_0 ?_
  refine r_istore_n (lv' := [(3, .int 0), (0, .ref a1), (1, .ref a2), (2, .int x3)]) 75 185 rfl rfl (Nat.le_of_ble_eq_true rfl) rfl ?_
  exact r_sub [1, 2, 3, 0] rfl k1
theorem e_X8_write_49 {G : Gm} {κ : Nat → Nat} {φ : Nat → Option Nat} (hS : GS G κ φ) {w : Wd} {Q : Rs → Wd → Prop} {a1 : Nat} {a2 : Nat} {m3 : Nat} {a4 : Nat} {a5 : Nat} {a6 : Nat} {a7 : Nat} {x8 : Int32} {x9 : Int32} {n10 : Nat} {g11 : Nat → Nat} {a12 : Nat} {x13 : Int32} {m14 : Nat} (o1 : Lk G w a1 (.inl (nX8, [.ref a4, .ref a5, .ref a6]))) (o2 : Lk G w a5 (.inl (nJ2, [.ref a7, .int 0, .int x8, .int x9]))) (o3 : Lk G w a7 (arB n10 g11)) (bd4 : m3 < 2 ^ 31) (bd5 : n10 < 2 ^ 31) (o6 : Lk G w a2 (.inl (nJ1, [.ref a12, .int 0, .int x13, .int (nI m14)]))) {Q7 : Rs → Wd → Prop} (e7 : n10 ≤ m3 → Ev G mJ1_append_3 [.ref a2, .int 39] w Q7) (k7 : n10 ≤ m3 → ∀ r w', Q7 r w' → Af G mX8_write 102 105 [] [] r w' Q) (q8 : ¬ n10 ≤ m3 → (g11 m3) < 128) {Q9 : Rs → Wd → Prop} (e9 : ¬ n10 ≤ m3 → Ev G mJ1_append_3 [.ref a2, .int (nI (g11 m3))] w Q9) (k9 : ¬ n10 ≤ m3 → ∀ r w', Q9 r w' → Af G mX8_write 69 72 [(0, .ref a1), (1, .ref a2), (2, .int (nI m3))] [] r w' Q) : Rn G mX8_write 49 [(0, .ref a1), (1, .ref a2), (2, .int (nI m3))] [] w Q := by
  refine r_iload_n 10 50 2 rfl rfl rfl ?_
  refine r_aload_n 11 51 0 rfl rfl rfl ?_
  refine r_get (v := .ref a5) fl_X8_13_X8 12 54 rfl rfl o1 rfl ?_
  refine r_callV lkV_X8_44_J2 (C := RJ2) (TT := TJ2) (NN := 4) rfl o2 13 57 rfl rfl (by decide) [] rfl rfl (Nat.le_of_ble_eq_true rfl) (Nat.le_of_ble_eq_true rfl) (e_J2_length hS (o1 := o2) (o2 := o3) (k3 := ?_)) (fun _ _ h => h)
  show Rn G mX8_write 57 [(0, .ref a1), (1, .ref a2), (2, .int (nI m3))] [.int (nI n10), .int (nI m3)] w _
  refine y_icmp_ge (a := m3) (b := n10) bd4 bd5 14 60 99 rfl rfl rfl (fun c1 => ?_) (fun c1 => ?_)
  · refine r_aload_n 34 100 1 rfl rfl rfl ?_
    refine r_bipush 35 102 rfl rfl db_39 ?_
    exact r_callV lkV_X8_67_J1 (C := RJ1) (TT := TJ1) (NN := 4) rfl o6 36 105 rfl rfl (by decide) [.int 39] rfl rfl (Nat.le_of_ble_eq_true rfl) (Nat.le_of_ble_eq_true rfl) (e7 c1) (fun r w' h => Af.sub [] rfl ((k7 c1) r w' h))
  · refine r_aload_n 15 61 1 rfl rfl rfl ?_
    refine r_aload_n 16 62 0 rfl rfl rfl ?_
    refine r_get (v := .ref a5) fl_X8_13_X8 17 65 rfl rfl o1 rfl ?_
    refine r_iload_n 18 66 2 rfl rfl rfl ?_
    refine r_callV lkV_X8_50_J2 (C := RJ2) (TT := TJ2) (NN := 4) rfl o2 19 69 rfl rfl (by decide) [.int (nI m3)] rfl rfl (Nat.le_of_ble_eq_true rfl) (Nat.le_of_ble_eq_true rfl) (e_J2_charAt hS (m2 := m3) (o1 := o2) (o2 := o3) (b3 := (by omega)) (b4 := (by omega)) (f5 := (by omega)) (q6 := (q8 c1)) (k7 := ?_)) (fun _ _ h => h)
    show Rn G mX8_write 69 [(0, .ref a1), (1, .ref a2), (2, .int (nI m3))] [.int (nI (g11 m3)), .ref a2] w _
    exact r_callV lkV_X8_67_J1 (C := RJ1) (TT := TJ1) (NN := 4) rfl o6 20 72 rfl rfl (by decide) [.int (nI (g11 m3))] rfl rfl (Nat.le_of_ble_eq_true rfl) (Nat.le_of_ble_eq_true rfl) (e9 c1) (fun r w' h => Af.sub [0, 1, 2] rfl ((k9 c1) r w' h))
theorem e_X8_write_122 {G : Gm} {κ : Nat → Nat} {φ : Nat → Option Nat} (hS : GS G κ φ) {w : Wd} {Q : Rs → Wd → Prop} {a1 : Nat} {a2 : Nat} {x3 : Int32} {m4 : Nat} (o1 : Lk G w a1 (.inl (nJ1, [.ref a2, .int 0, .int x3, .int (nI m4)]))) {Q2 : Rs → Wd → Prop} (e2 : Ev G mJ1_append_3 [.ref a1, .int 46] w Q2) (k2 : ∀ r w', Q2 r w' → Af G mX8_write 124 127 [] [] r w' Q) : Rn G mX8_write 122 [] [.ref a1] w Q := by
  refine r_bipush 45 124 rfl rfl db_46 ?_
  exact r_callV lkV_X8_67_J1 (C := RJ1) (TT := TJ1) (NN := 4) rfl o1 46 127 rfl rfl (by decide) [.int 46] rfl rfl (Nat.le_of_ble_eq_true rfl) (Nat.le_of_ble_eq_true rfl) e2 (fun r w' h => Af.sub [] rfl (k2 r w' h))
theorem e_X8_write_185 {G : Gm} {κ : Nat → Nat} {φ : Nat → Option Nat} (hS : GS G κ φ) {w : Wd} {Q : Rs → Wd → Prop} {a1 : Nat} {a2 : Nat} {x3 : Int32} {m4 : Nat} {a5 : Nat} {a6 : Nat} {a7 : Nat} {n8 : Nat} {g9 : Nat → Int32} {a10 : Nat} {x11 : Int32} {m12 : Nat} (o1 : Lk G w a1 (.inl (nX8, [.ref a5, .ref a6, .ref a7]))) (o2 : Lk G w a7 (arI .int n8 g9)) (bd3 : m4 < 2 ^ 31) (bd4 : n8 < 2 ^ 31) (o5 : Lk G w a2 (.inl (nJ1, [.ref a10, .int 0, .int x11, .int (nI m12)]))) {Q6 : Rs → Wd → Prop} (e6 : n8 ≤ m4 → x3 = 0 → Ev G mJ1_append_2 [.ref a2, .ref (κ 20)] w Q6) (k6 : n8 ≤ m4 → x3 = 0 → ∀ r w', Q6 r w' → Af G mX8_write 254 257 [] [] r w' Q) {Q7 : Rs → Wd → Prop} (e7 : n8 ≤ m4 → ¬ x3 = 0 → Ev G mJ1_append_2 [.ref a2, .ref (κ 24)] w Q7) (k7 : n8 ≤ m4 → ¬ x3 = 0 → ∀ r w', Q7 r w' → Af G mX8_write 254 257 [] [] r w' Q) {Q8 : Rs → Wd → Prop} (e8 : ¬ n8 ≤ m4 → m4 ≤ 0 → Ev G mJ1_append_2 [.ref a2, .ref (κ 20)] w Q8) (k8 : ¬ n8 ≤ m4 → m4 ≤ 0 → ∀ r w', Q8 r w' → Af G mX8_write 206 209 [(0, .ref a1), (1, .ref a2), (2, .int x3), (3, .int (nI m4))] [] r w' Q) {Q9 : Rs → Wd → Prop} (e9 : ¬ n8 ≤ m4 → ¬ m4 ≤ 0 → Ev G mJ1_append_2 [.ref a2, .ref (κ 22)] w Q9) (k9 : ¬ n8 ≤ m4 → ¬ m4 ≤ 0 → ∀ r w', Q9 r w' → Af G mX8_write 206 209 [(0, .ref a1), (1, .ref a2), (2, .int x3), (3, .int (nI m4))] [] r w' Q) : Rn G mX8_write 185 [(0, .ref a1), (1, .ref a2), (2, .int x3), (3, .int (nI m4))] [] w Q := by
  refine r_iload_n 76 186 3 rfl rfl rfl ?_
  refine r_aload_n 77 187 0 rfl rfl rfl ?_
  refine r_get (v := .ref a7) fl_X8_17_X8 78 190 rfl rfl o1 rfl ?_
  refine r_alen 79 191 rfl rfl o2 ?_
  refine y_icmp_ge (a := m4) (b := n8) bd3 bd4 80 194 242 rfl rfl rfl (fun c1 => ?_) (fun c1 => ?_)
  · refine r_aload_n 103 243 1 rfl rfl rfl ?_
    refine r_iload_n 104 244 2 rfl rfl rfl ?_
    refine r_if_eq 105 247 252 rfl rfl rfl (fun c2 => ?_) (fun c2 => ?_)
    · refine r_ldcS (tx := "") (a := κ 20) (hS 20).1 108 254 rfl rfl ?_
      exact r_callV lkV_X8_73_J1 (C := RJ1) (TT := TJ1) (NN := 4) rfl o5 109 257 rfl rfl (by decide) [.ref (κ 20)] rfl rfl (Nat.le_of_ble_eq_true rfl) (Nat.le_of_ble_eq_true rfl) (e6 c1 c2) (fun r w' h => Af.sub [] rfl ((k6 c1 c2) r w' h))
    · refine r_ldcS (tx := ")") (a := κ 24) (hS 24).1 106 249 rfl rfl ?_
      refine r_goto 107 254 rfl rfl ?_
      exact r_callV lkV_X8_73_J1 (C := RJ1) (TT := TJ1) (NN := 4) rfl o5 109 257 rfl rfl (by decide) [.ref (κ 24)] rfl rfl (Nat.le_of_ble_eq_true rfl) (Nat.le_of_ble_eq_true rfl) (e7 c1 c2) (fun r w' h => Af.sub [] rfl ((k7 c1 c2) r w' h))
  · refine r_aload_n 81 195 1 rfl rfl rfl ?_
    refine r_iload_n 82 196 3 rfl rfl rfl ?_
    refine y_if_le (a := m4) (by omega) 83 199 204 rfl rfl rfl (fun c2 => ?_) (fun c2 => ?_)
    · refine r_ldcS (tx := "") (a := κ 20) (hS 20).1 86 206 rfl rfl ?_
      exact r_callV lkV_X8_73_J1 (C := RJ1) (TT := TJ1) (NN := 4) rfl o5 87 209 rfl rfl (by decide) [.ref (κ 20)] rfl rfl (Nat.le_of_ble_eq_true rfl) (Nat.le_of_ble_eq_true rfl) (e8 c1 c2) (fun r w' h => Af.sub [0, 1, 2, 3] rfl ((k8 c1 c2) r w' h))
    · refine r_ldcS (tx := ",") (a := κ 22) (hS 22).1 84 201 rfl rfl ?_
      refine r_goto 85 206 rfl rfl ?_
      exact r_callV lkV_X8_73_J1 (C := RJ1) (TT := TJ1) (NN := 4) rfl o5 87 209 rfl rfl (by decide) [.ref (κ 22)] rfl rfl (Nat.le_of_ble_eq_true rfl) (Nat.le_of_ble_eq_true rfl) (e9 c1 c2) (fun r w' h => Af.sub [0, 1, 2, 3] rfl ((k9 c1 c2) r w' h))
theorem e_X8_write_105 {G : Gm} {κ : Nat → Nat} {φ : Nat → Option Nat} (hS : GS G κ φ) {w : Wd} {Q : Rs → Wd → Prop} {a1 : Nat} (k1 : Q (.inl none) w) : Rn G mX8_write 105 [] [.ref a1] w Q := by
  refine r_pop 37 106 rfl rfl rfl ?_
  refine r_goto 38 258 rfl rfl ?_
  exact r_vret 111 rfl rfl k1
theorem e_X8_write_72 {G : Gm} {κ : Nat → Nat} {φ : Nat → Option Nat} (hS : GS G κ φ) {w : Wd} {Q : Rs → Wd → Prop} {a1 : Nat} {a2 : Nat} {m3 : Nat} {a4 : Nat} {a5 : Nat} {a6 : Nat} {a7 : Nat} {a8 : Nat} {x9 : Int32} {x10 : Int32} {n11 : Nat} {g12 : Nat → Nat} {a13 : Nat} {x14 : Int32} {m15 : Nat} (o1 : Lk G w a1 (.inl (nX8, [.ref a5, .ref a6, .ref a7]))) (o2 : Lk G w a6 (.inl (nJ2, [.ref a8, .int 0, .int x9, .int x10]))) (o3 : Lk G w a8 (arB n11 g12)) (b4 : m3 < 2 ^ 31) (b5 : n11 < 2 ^ 31) (f6 : m3 < n11) (q7 : (g12 m3) < 128) (bd8 : (g12 m3) < 2 ^ 31) (k9 : ¬ (g12 m3) = 39 → Rn G mX8_write 49 [(0, .ref a1), (1, .ref a2), (2, .int (nI (m3 + 1)))] [] w Q) (o10 : Lk G w a2 (.inl (nJ1, [.ref a13, .int 0, .int x14, .int (nI m15)]))) {Q11 : Rs → Wd → Prop} (e11 : (g12 m3) = 39 → Ev G mJ1_append_3 [.ref a2, .int 39] w Q11) (k11 : (g12 m3) = 39 → ∀ r w', Q11 r w' → Af G mX8_write 89 92 [(0, .ref a1), (1, .ref a2), (2, .int (nI m3))] [] r w' Q) : Rn G mX8_write 72 [(0, .ref a1), (1, .ref a2), (2, .int (nI m3))] [.ref a4] w Q := by
  refine r_pop 21 73 rfl rfl rfl ?_
  refine r_aload_n 22 74 0 rfl rfl rfl ?_
  refine r_get (v := .ref a6) fl_X8_13_X8 23 77 rfl rfl o1 rfl ?_
  refine r_iload_n 24 78 2 rfl rfl rfl ?_
  refine r_callV lkV_X8_50_J2 (C := RJ2) (TT := TJ2) (NN := 4) rfl o2 25 81 rfl rfl (by decide) [.int (nI m3)] rfl rfl (Nat.le_of_ble_eq_true rfl) (Nat.le_of_ble_eq_true rfl) (e_J2_charAt hS (m2 := m3) (o1 := o2) (o2 := o3) (b3 := b4) (b4 := b5) (f5 := f6) (q6 := q7) (k7 := ?_)) (fun _ _ h => h)
  show Rn G mX8_write 81 [(0, .ref a1), (1, .ref a2), (2, .int (nI m3))] [.int (nI (g12 m3))] w _
  refine r_bipush 26 83 rfl rfl db_39 ?_
  refine y_icmp_ne (a := (g12 m3)) (b := 39) bd8 (by decide) 27 86 93 rfl rfl rfl (fun c1 => ?_) (fun c1 => ?_)
  · refine r_iinc (v := (nI (m3 + 1))) (lv' := [(2, .int (nI (m3 + 1))), (0, .ref a1), (1, .ref a2)]) 32 96 2 rfl rfl rfl (by rw [di_1]; exact nI_add _ _) (Nat.le_of_ble_eq_true rfl) rfl ?_
    refine r_goto 33 49 rfl rfl ?_
    exact r_sub [1, 2, 0] rfl (k9 c1)
  · refine r_aload_n 28 87 1 rfl rfl rfl ?_
    refine r_bipush 29 89 rfl rfl db_39 ?_
    exact r_callV lkV_X8_67_J1 (C := RJ1) (TT := TJ1) (NN := 4) rfl o10 30 92 rfl rfl (by decide) [.int 39] rfl rfl (Nat.le_of_ble_eq_true rfl) (Nat.le_of_ble_eq_true rfl) (e11 c1) (fun r w' h => Af.sub [0, 1, 2] rfl ((k11 c1) r w' h))
theorem e_X8_write_127 {G : Gm} {κ : Nat → Nat} {φ : Nat → Option Nat} (hS : GS G κ φ) {w : Wd} {Q : Rs → Wd → Prop} {a1 : Nat} (k1 : Q (.inl none) w) : Rn G mX8_write 127 [] [.ref a1] w Q := by
  refine r_pop 47 128 rfl rfl rfl ?_
  refine r_goto 48 258 rfl rfl ?_
  exact r_vret 111 rfl rfl k1
theorem e_X8_write_257 {G : Gm} {κ : Nat → Nat} {φ : Nat → Option Nat} (hS : GS G κ φ) {w : Wd} {Q : Rs → Wd → Prop} {a1 : Nat} (k1 : Q (.inl none) w) : Rn G mX8_write 257 [] [.ref a1] w Q := by
  refine r_pop 110 258 rfl rfl rfl ?_
  exact r_vret 111 rfl rfl k1
theorem e_X8_write_209 {G : Gm} {κ : Nat → Nat} {φ : Nat → Option Nat} (hS : GS G κ φ) {w : Wd} {Q : Rs → Wd → Prop} {a1 : Nat} {a2 : Nat} {x3 : Int32} {m4 : Nat} {a5 : Nat} {a6 : Nat} {a7 : Nat} {a8 : Nat} {a9 : Nat} {x10 : Int32} {m11 : Nat} (o1 : Lk G w a1 (.inl (nX8, [.ref a6, .ref a7, .ref a8]))) (o2 : Lk G w a5 (.inl (nJ1, [.ref a9, .int 0, .int x10, .int (nI m11)]))) {Q3 : Rs → Wd → Prop} (e3 : a6 = (κ 12) → Ev G mJ1_append_2 [.ref a5, .ref (κ 23)] w Q3) (k3 : a6 = (κ 12) → ∀ r w', Q3 r w' → Af G mX8_write 223 226 [(0, .ref a1), (1, .ref a2), (2, .int x3), (3, .int (nI m4))] [] r w' Q) {Q4 : Rs → Wd → Prop} (e4 : ¬ a6 = (κ 12) → ¬ a6 = (κ 14) → Ev G mJ1_append_2 [.ref a5, .ref (κ 20)] w Q4) (k4 : ¬ a6 = (κ 12) → ¬ a6 = (κ 14) → ∀ r w', Q4 r w' → Af G mX8_write 223 226 [(0, .ref a1), (1, .ref a2), (2, .int x3), (3, .int (nI m4))] [] r w' Q) {Q5 : Rs → Wd → Prop} (e5 : ¬ a6 = (κ 12) → a6 = (κ 14) → Ev G mJ1_append_2 [.ref a5, .ref (κ 23)] w Q5) (k5 : ¬ a6 = (κ 12) → a6 = (κ 14) → ∀ r w', Q5 r w' → Af G mX8_write 223 226 [(0, .ref a1), (1, .ref a2), (2, .int x3), (3, .int (nI m4))] [] r w' Q) : Rn G mX8_write 209 [(0, .ref a1), (1, .ref a2), (2, .int x3), (3, .int (nI m4))] [.ref a5] w Q := by
  refine r_aload_n 88 210 0 rfl rfl rfl ?_
  refine r_callV lkV_X8_61_X8 (C := RX8) (TT := TX8) (NN := 3) rfl o1 89 213 rfl rfl (by decide) [] rfl rfl (Nat.le_of_ble_eq_true rfl) (Nat.le_of_ble_eq_true rfl) (e_X8_refers hS (o1 := o1) (k2 := fun z0_0 => ?_) (k3 := fun z0_0 => fun z0_1 => ?_) (k4 := fun z0_0 => fun z0_1 => ?_)) (fun _ _ h => h)
  · show Rn G mX8_write 213 [(0, .ref a1), (1, .ref a2), (2, .int x3), (3, .int (nI m4))] [.int 1, .ref a5] w _
    refine r_if_eq 90 216 221 rfl rfl rfl (fun c => absurd c (by decide)) (fun _ => ?_)
    refine r_ldcS (tx := "#") (a := κ 23) (hS 23).1 91 218 rfl rfl ?_
    refine r_goto 92 223 rfl rfl ?_
    exact r_callV lkV_X8_73_J1 (C := RJ1) (TT := TJ1) (NN := 4) rfl o2 94 226 rfl rfl (by decide) [.ref (κ 23)] rfl rfl (Nat.le_of_ble_eq_true rfl) (Nat.le_of_ble_eq_true rfl) (e3 z0_0) (fun r w' h => Af.sub [0, 1, 2, 3] rfl ((k3 z0_0) r w' h))
  · show Rn G mX8_write 213 [(0, .ref a1), (1, .ref a2), (2, .int x3), (3, .int (nI m4))] [.int 0, .ref a5] w _
    refine r_if_eq 90 216 221 rfl rfl rfl (fun _ => ?_) (fun c => absurd c (by decide))
    refine r_ldcS (tx := "") (a := κ 20) (hS 20).1 93 223 rfl rfl ?_
    exact r_callV lkV_X8_73_J1 (C := RJ1) (TT := TJ1) (NN := 4) rfl o2 94 226 rfl rfl (by decide) [.ref (κ 20)] rfl rfl (Nat.le_of_ble_eq_true rfl) (Nat.le_of_ble_eq_true rfl) (e4 z0_0 z0_1) (fun r w' h => Af.sub [0, 1, 2, 3] rfl ((k4 z0_0 z0_1) r w' h))
  · show Rn G mX8_write 213 [(0, .ref a1), (1, .ref a2), (2, .int x3), (3, .int (nI m4))] [.int 1, .ref a5] w _
    refine r_if_eq 90 216 221 rfl rfl rfl (fun c => absurd c (by decide)) (fun _ => ?_)
    refine r_ldcS (tx := "#") (a := κ 23) (hS 23).1 91 218 rfl rfl ?_
    refine r_goto 92 223 rfl rfl ?_
    exact r_callV lkV_X8_73_J1 (C := RJ1) (TT := TJ1) (NN := 4) rfl o2 94 226 rfl rfl (by decide) [.ref (κ 23)] rfl rfl (Nat.le_of_ble_eq_true rfl) (Nat.le_of_ble_eq_true rfl) (e5 z0_0 z0_1) (fun r w' h => Af.sub [0, 1, 2, 3] rfl ((k5 z0_0 z0_1) r w' h))
theorem e_X8_write_92 {G : Gm} {κ : Nat → Nat} {φ : Nat → Option Nat} (hS : GS G κ φ) {w : Wd} {Q : Rs → Wd → Prop} {a1 : Nat} {a2 : Nat} {m3 : Nat} {a4 : Nat} (k1 : Rn G mX8_write 49 [(0, .ref a1), (1, .ref a2), (2, .int (nI (m3 + 1)))] [] w Q) : Rn G mX8_write 92 [(0, .ref a1), (1, .ref a2), (2, .int (nI m3))] [.ref a4] w Q := by
  refine r_pop 31 93 rfl rfl rfl ?_
  refine r_iinc (v := (nI (m3 + 1))) (lv' := [(2, .int (nI (m3 + 1))), (0, .ref a1), (1, .ref a2)]) 32 96 2 rfl rfl rfl (by rw [di_1]; exact nI_add _ _) (Nat.le_of_ble_eq_true rfl) rfl ?_
  refine r_goto 33 49 rfl rfl ?_
  exact r_sub [1, 2, 0] rfl k1
theorem e_X8_write_226 {G : Gm} {κ : Nat → Nat} {φ : Nat → Option Nat} (hS : GS G κ φ) {w : Wd} {Q : Rs → Wd → Prop} {a1 : Nat} {a2 : Nat} {x3 : Int32} {m4 : Nat} {a5 : Nat} {a6 : Nat} {a7 : Nat} {a8 : Nat} {n9 : Nat} {g10 : Nat → Int32} {a11 : Nat} {x12 : Int32} {m13 : Nat} (o1 : Lk G w a1 (.inl (nX8, [.ref a6, .ref a7, .ref a8]))) (o2 : Lk G w a8 (arI .int n9 g10)) (b3 : m4 < n9) (bd4 : n9 < 2 ^ 31) (o5 : Lk G w a5 (.inl (nJ1, [.ref a11, .int 0, .int x12, .int (nI m13)]))) {Q6 : Rs → Wd → Prop} (e6 : Ev G mJ1_append [.ref a5, .int (g10 m4)] w Q6) (k6 : ∀ r w', Q6 r w' → Af G mX8_write 232 235 [(0, .ref a1), (1, .ref a2), (2, .int x3), (3, .int (nI m4))] [] r w' Q) : Rn G mX8_write 226 [(0, .ref a1), (1, .ref a2), (2, .int x3), (3, .int (nI m4))] [.ref a5] w Q := by
  refine r_aload_n 95 227 0 rfl rfl rfl ?_
  refine r_get (v := .ref a8) fl_X8_17_X8 96 230 rfl rfl o1 rfl ?_
  refine r_iload_n 97 231 3 rfl rfl rfl ?_
  refine y_iald (i := m4) 98 232 rfl rfl o2 b3 bd4 ?_
  exact r_callV lkV_X8_85_J1 (C := RJ1) (TT := TJ1) (NN := 4) rfl o5 99 235 rfl rfl (by decide) [.int (g10 m4)] rfl rfl (Nat.le_of_ble_eq_true rfl) (Nat.le_of_ble_eq_true rfl) e6 (fun r w' h => Af.sub [0, 1, 2, 3] rfl (k6 r w' h))
theorem e_X8_write_235 {G : Gm} {κ : Nat → Nat} {φ : Nat → Option Nat} (hS : GS G κ φ) {w : Wd} {Q : Rs → Wd → Prop} {a1 : Nat} {a2 : Nat} {x3 : Int32} {m4 : Nat} {a5 : Nat} (k1 : Rn G mX8_write 185 [(0, .ref a1), (1, .ref a2), (2, .int x3), (3, .int (nI (m4 + 1)))] [] w Q) : Rn G mX8_write 235 [(0, .ref a1), (1, .ref a2), (2, .int x3), (3, .int (nI m4))] [.ref a5] w Q := by
  refine r_pop 100 236 rfl rfl rfl ?_
  refine r_iinc (v := (nI (m4 + 1))) (lv' := [(3, .int (nI (m4 + 1))), (0, .ref a1), (1, .ref a2), (2, .int x3)]) 101 239 3 rfl rfl rfl (by rw [di_1]; exact nI_add _ _) (Nat.le_of_ble_eq_true rfl) rfl ?_
  refine r_goto 102 185 rfl rfl ?_
  exact r_sub [1, 2, 3, 0] rfl k1
theorem e_X7_references {G : Gm} {κ : Nat → Nat} {φ : Nat → Option Nat} (hS : GS G κ φ) {w : Wd} {Q : Rs → Wd → Prop} {a1 : Nat} {m2 : Nat} {a3 : Nat} {a4 : Nat} {x5 : Int32} {a6 : Nat} {m7 : Nat} (hg : 15 ≤ w.2.2) (o1 : Lk G w a1 (.inl (nX7, [.int (nI m2), .ref a3, .ref a4]))) (o2 : Lk G w a4 (.inl (nJ6, [.int x5, .ref a6, .int (nI m7)]))) {Q3 : Rs → Wd → Prop} (e3 : Ev G mJ6_iterator [.ref a4] (wset (wnew w (.inl (nJ6, [.int 0, .null, .int 0])) 3) w.2.1 (.inl (nJ6, [.int 0, .ref (κ 1), .int 0]))) Q3) (k3 : ∀ r w', Q3 r w' → Af G mX7_references 12 15 [(1, .ref w.2.1)] [] r w' Q) : Ev G mX7_references [.ref a1] w Q := by
  show Rn G mX7_references 0 [(0, .ref a1)] [] w Q
  refine Rn.wok fun hwk => ?_
  refine r_new (fs := [.int 0, .null, .int 0]) (ty := tyJ6) (T := TJ6) (C := RJ6) (N := 3) (ci := nJ6) (n := 3) 0 3 rfl rfl rfl in_J6 tyJ6_ok q1192 q147 q67 rfl (by decide) (by show 12 + 3 ≤ w.2.2; omega) ?_
  show Rn G mX7_references 3 [(0, .ref a1)] [.ref w.2.1] (wnew w (.inl (nJ6, [.int 0, .null, .int 0])) 3) _
  refine r_dup 1 4 rfl rfl rfl ?_
  refine r_callI lkI_X7_9 2 7 rfl rfl (by decide) [] rfl rfl (Nat.le_of_ble_eq_true rfl) (Nat.le_of_ble_eq_true rfl) (e_J6_init hS (o1 := wnew_s) (k2 := ?_)) (fun _ _ h => h)
  show Rn G mX7_references 7 [(0, .ref a1)] [.ref w.2.1] (wset (wnew w (.inl (nJ6, [.int 0, .null, .int 0])) 3) w.2.1 (.inl (nJ6, [.int 0, .ref (κ 1), .int 0]))) _
  refine r_astore_n (lv' := [(1, .ref w.2.1), (0, .ref a1)]) 3 8 rfl rfl (Nat.le_of_ble_eq_true rfl) rfl ?_
  refine r_aload_n 4 9 1 rfl rfl rfl ?_
  refine r_get (v := .ref a4) fl_X7_10_X7 5 12 rfl rfl (Lk.set_n (Lk.new_n o1 (by have := (o1.lt hwk); show a1 < w.2.1; omega)) (Nat.ne_of_lt (show a1 < w.2.1 from (by have := Lk.lt o1 hwk; omega)))) rfl ?_
  exact r_callV lkV_X7_24_J6 (C := RJ6) (TT := TJ6) (NN := 3) rfl (Lk.set_n (Lk.new_n o2 (by have := (o2.lt hwk); show a4 < w.2.1; omega)) (Nat.ne_of_lt (show a4 < w.2.1 from (by have := Lk.lt o2 hwk; omega)))) 6 15 rfl rfl (by decide) [] rfl rfl (Nat.le_of_ble_eq_true rfl) (Nat.le_of_ble_eq_true rfl) e3 (fun r w' h => Af.sub [0] rfl (k3 r w' h))
theorem e_X7_references_15 {G : Gm} {κ : Nat → Nat} {φ : Nat → Option Nat} (hS : GS G κ φ) {w : Wd} {Q : Rs → Wd → Prop} {a1 : Nat} {a2 : Nat} (k1 : Rn G mX7_references 16 [(1, .ref a1), (2, .ref a2)] [] w Q) : Rn G mX7_references 15 [(1, .ref a1)] [.ref a2] w Q := by
  refine r_astore_n (lv' := [(2, .ref a2), (1, .ref a1)]) 7 16 rfl rfl (Nat.le_of_ble_eq_true rfl) rfl ?_
  exact r_sub [1, 0] rfl k1
theorem e_X7_references_16 {G : Gm} {κ : Nat → Nat} {φ : Nat → Option Nat} (hS : GS G κ φ) {w : Wd} {Q : Rs → Wd → Prop} {a1 : Nat} {a2 : Nat} {m3 : Nat} {x4 : Int32} {x5 : Int32} {a6 : Nat} (o1 : Lk G w a2 (.inl (nJ22, [.int (nI m3), .int x4, .int x5, .ref a6]))) {Q2 : Rs → Wd → Prop} (e2 : Ev G mJ22_hasNext [.ref a2] w Q2) (k2 : ∀ r w', Q2 r w' → Af G mX7_references 17 22 [(1, .ref a1), (2, .ref a2)] [] r w' Q) : Rn G mX7_references 16 [(1, .ref a1), (2, .ref a2)] [] w Q := by
  refine r_aload_n 8 17 1 rfl rfl rfl ?_
  exact r_callF lkF_X7_28_J22 (C := RJ22) (TT := TJ22) (NN := 4) rfl o1 9 22 rfl rfl (by decide) [] rfl rfl (Nat.le_of_ble_eq_true rfl) (Nat.le_of_ble_eq_true rfl) e2 (fun r w' h => Af.sub [0, 1] rfl (k2 r w' h))
theorem e_X7_references_22 {G : Gm} {κ : Nat → Nat} {φ : Nat → Option Nat} (hS : GS G κ φ) {w : Wd} {Q : Rs → Wd → Prop} {a1 : Nat} {a2 : Nat} {x3 : Int32} {m4 : Nat} {x5 : Int32} {x6 : Int32} {a7 : Nat} (k1 : x3 = 0 → Q (.inl (some (.ref a1))) w) (o2 : Lk G w a2 (.inl (nJ22, [.int (nI m4), .int x5, .int x6, .ref a7]))) {Q3 : Rs → Wd → Prop} (e3 : ¬ x3 = 0 → Ev G mJ22_next [.ref a2] w Q3) (k3 : ¬ x3 = 0 → ∀ r w', Q3 r w' → Af G mX7_references 26 31 [(1, .ref a1), (2, .ref a2)] [] r w' Q) : Rn G mX7_references 22 [(1, .ref a1), (2, .ref a2)] [.int x3] w Q := by
  refine r_if_eq 10 25 79 rfl rfl rfl (fun c1 => ?_) (fun c1 => ?_)
  · refine r_aload_n 36 80 0 rfl rfl rfl ?_
    exact r_aret 37 rfl rfl (Or.inl ⟨_, rfl⟩) (Or.inr ⟨_, rfl⟩) (k1 c1)
  · refine r_aload_n 11 26 1 rfl rfl rfl ?_
    exact r_callF lkF_X7_34_J22 (C := RJ22) (TT := TJ22) (NN := 4) rfl o2 12 31 rfl rfl (by decide) [] rfl rfl (Nat.le_of_ble_eq_true rfl) (Nat.le_of_ble_eq_true rfl) (e3 c1) (fun r w' h => Af.sub [0, 1] rfl ((k3 c1) r w' h))
theorem e_X7_references_31 {G : Gm} {κ : Nat → Nat} {φ : Nat → Option Nat} (hS : GS G κ φ) {w : Wd} {Q : Rs → Wd → Prop} {a1 : Nat} {a2 : Nat} {a3 : Nat} {a4 : Nat} {a5 : Nat} {a6 : Nat} (o1 : Lk G w a3 (.inl (nX8, [.ref a4, .ref a5, .ref a6]))) (k2 : Rn G mX7_references 38 [(1, .ref a1), (2, .ref a2), (3, .ref a3), (4, .int 0)] [] w Q) : Rn G mX7_references 31 [(1, .ref a1), (2, .ref a2)] [.ref a3] w Q := by
  refine r_castS (C := RX8) (TT := TX8) (NN := 3) rfl q1402 13 34 rfl rfl o1 ?_
  refine r_astore_n (lv' := [(3, .ref a3), (1, .ref a1), (2, .ref a2)]) 14 35 rfl rfl (Nat.le_of_ble_eq_true rfl) rfl ?_
  refine r_iconst 15 36 rfl rfl di_0 ?_
  refine r_istore (lv' := [(4, .int 0), (3, .ref a3), (1, .ref a1), (2, .ref a2)]) 16 38 rfl rfl (Nat.le_of_ble_eq_true rfl) rfl ?_
  exact r_sub [2, 3, 1, 0] rfl k2
theorem e_X7_references_38 {G : Gm} {κ : Nat → Nat} {φ : Nat → Option Nat} (hS : GS G κ φ) {w : Wd} {Q : Rs → Wd → Prop} {a1 : Nat} {a2 : Nat} {a3 : Nat} {m4 : Nat} {a5 : Nat} {a6 : Nat} {a7 : Nat} {n8 : Nat} {g9 : Nat → Int32} (o1 : Lk G w a3 (.inl (nX8, [.ref a5, .ref a6, .ref a7]))) (o2 : Lk G w a7 (arI .int n8 g9)) (bd3 : m4 < 2 ^ 31) (bd4 : n8 < 2 ^ 31) (k5 : a5 = (κ 12) → n8 ≤ m4 → Rn G mX7_references 16 [(1, .ref a1), (2, .ref a2)] [] w Q) (b6 : a5 = (κ 12) → ¬ n8 ≤ m4 → m4 < n8) {Q7 : Rs → Wd → Prop} (e7 : a5 = (κ 12) → ¬ n8 ≤ m4 → Ev G mJ20_valueOf [.int (g9 m4)] w Q7) (k7 : a5 = (κ 12) → ¬ n8 ≤ m4 → ∀ r w', Q7 r w' → Af G mX7_references 63 66 [(1, .ref a1), (2, .ref a2), (3, .ref a3), (4, .int (nI m4))] [.ref a1] r w' Q) (k8 : ¬ a5 = (κ 12) → ¬ a5 = (κ 14) → Rn G mX7_references 16 [(1, .ref a1), (2, .ref a2)] [] w Q) (k9 : ¬ a5 = (κ 12) → a5 = (κ 14) → n8 ≤ m4 → Rn G mX7_references 16 [(1, .ref a1), (2, .ref a2)] [] w Q) (b10 : ¬ a5 = (κ 12) → a5 = (κ 14) → ¬ n8 ≤ m4 → m4 < n8) {Q11 : Rs → Wd → Prop} (e11 : ¬ a5 = (κ 12) → a5 = (κ 14) → ¬ n8 ≤ m4 → Ev G mJ20_valueOf [.int (g9 m4)] w Q11) (k11 : ¬ a5 = (κ 12) → a5 = (κ 14) → ¬ n8 ≤ m4 → ∀ r w', Q11 r w' → Af G mX7_references 63 66 [(1, .ref a1), (2, .ref a2), (3, .ref a3), (4, .int (nI m4))] [.ref a1] r w' Q) : Rn G mX7_references 38 [(1, .ref a1), (2, .ref a2), (3, .ref a3), (4, .int (nI m4))] [] w Q := by
  refine r_aload_n 17 39 2 rfl rfl rfl ?_
  refine r_callV lkV_X7_40_X8 (C := RX8) (TT := TX8) (NN := 3) rfl o1 18 42 rfl rfl (by decide) [] rfl rfl (Nat.le_of_ble_eq_true rfl) (Nat.le_of_ble_eq_true rfl) (e_X8_refers hS (o1 := o1) (k2 := fun z0_0 => ?_) (k3 := fun z0_0 => fun z0_1 => ?_) (k4 := fun z0_0 => fun z0_1 => ?_)) (fun _ _ h => h)
  · show Rn G mX7_references 42 [(1, .ref a1), (2, .ref a2), (3, .ref a3), (4, .int (nI m4))] [.int 1] w _
    refine r_if_eq 19 45 76 rfl rfl rfl (fun c => absurd c (by decide)) (fun _ => ?_)
    refine r_iload 20 47 3 rfl rfl rfl ?_
    refine r_aload_n 21 48 2 rfl rfl rfl ?_
    refine r_getN (i := 2) (host := "ExchangeText") (T := TX8) (C := RX8) (NN := 3) rfl (by decide) q1253 22 51 rfl rfl o1 rfl ?_
    refine r_alen 23 52 rfl rfl o2 ?_
    refine y_icmp_ge (a := m4) (b := n8) bd3 bd4 24 55 76 rfl rfl rfl (fun c2 => ?_) (fun c2 => ?_)
    · refine r_goto 35 16 rfl rfl ?_
      exact r_sub [0, 1] rfl (k5 z0_0 c2)
    · refine r_aload_n 25 56 0 rfl rfl rfl ?_
      refine r_aload_n 26 57 2 rfl rfl rfl ?_
      refine r_getN (i := 2) (host := "ExchangeText") (T := TX8) (C := RX8) (NN := 3) rfl (by decide) q1253 27 60 rfl rfl o1 rfl ?_
      refine r_iload 28 62 3 rfl rfl rfl ?_
      refine y_iald (i := m4) 29 63 rfl rfl o2 (b6 z0_0 c2) (by omega) ?_
      exact r_callS lkS_X7_47 30 66 rfl rfl (by decide) [.int (g9 m4)] rfl rfl (Nat.le_of_ble_eq_true rfl) (Nat.le_of_ble_eq_true rfl) (e7 z0_0 c2) (fun r w' h => Af.sub [0, 1, 2, 3] rfl ((k7 z0_0 c2) r w' h))
  · show Rn G mX7_references 42 [(1, .ref a1), (2, .ref a2), (3, .ref a3), (4, .int (nI m4))] [.int 0] w _
    refine r_if_eq 19 45 76 rfl rfl rfl (fun _ => ?_) (fun c => absurd c (by decide))
    refine r_goto 35 16 rfl rfl ?_
    exact r_sub [0, 1] rfl (k8 z0_0 z0_1)
  · show Rn G mX7_references 42 [(1, .ref a1), (2, .ref a2), (3, .ref a3), (4, .int (nI m4))] [.int 1] w _
    refine r_if_eq 19 45 76 rfl rfl rfl (fun c => absurd c (by decide)) (fun _ => ?_)
    refine r_iload 20 47 3 rfl rfl rfl ?_
    refine r_aload_n 21 48 2 rfl rfl rfl ?_
    refine r_getN (i := 2) (host := "ExchangeText") (T := TX8) (C := RX8) (NN := 3) rfl (by decide) q1253 22 51 rfl rfl o1 rfl ?_
    refine r_alen 23 52 rfl rfl o2 ?_
    refine y_icmp_ge (a := m4) (b := n8) (by omega) (by omega) 24 55 76 rfl rfl rfl (fun c3 => ?_) (fun c3 => ?_)
    · refine r_goto 35 16 rfl rfl ?_
      exact r_sub [0, 1] rfl (k9 z0_0 z0_1 c3)
    · refine r_aload_n 25 56 0 rfl rfl rfl ?_
      refine r_aload_n 26 57 2 rfl rfl rfl ?_
      refine r_getN (i := 2) (host := "ExchangeText") (T := TX8) (C := RX8) (NN := 3) rfl (by decide) q1253 27 60 rfl rfl o1 rfl ?_
      refine r_iload 28 62 3 rfl rfl rfl ?_
      refine y_iald (i := m4) 29 63 rfl rfl o2 (b10 z0_0 z0_1 c3) (by omega) ?_
      exact r_callS lkS_X7_47 30 66 rfl rfl (by decide) [.int (g9 m4)] rfl rfl (Nat.le_of_ble_eq_true rfl) (Nat.le_of_ble_eq_true rfl) (e11 z0_0 z0_1 c3) (fun r w' h => Af.sub [0, 1, 2, 3] rfl ((k11 z0_0 z0_1 c3) r w' h))
theorem e_X7_references_66 {G : Gm} {κ : Nat → Nat} {φ : Nat → Option Nat} (hS : GS G κ φ) {w : Wd} {Q : Rs → Wd → Prop} {k_a1 : Nat} {a1 : Nat} {a2 : Nat} {m3 : Nat} {a4 : Nat} {x5 : Int32} {a6 : Nat} {m7 : Nat} (o1 : Lk G w k_a1 (.inl (nJ6, [.int x5, .ref a6, .int (nI m7)]))) {Q2 : Rs → Wd → Prop} (e2 : Ev G mJ6_add [.ref k_a1, .ref a4] w Q2) (k2 : ∀ r w', Q2 r w' → Af G mX7_references 66 69 [(1, .ref k_a1), (2, .ref a1), (3, .ref a2), (4, .int (nI m3))] [] r w' Q) : Rn G mX7_references 66 [(1, .ref k_a1), (2, .ref a1), (3, .ref a2), (4, .int (nI m3))] [.ref a4, .ref k_a1] w Q := by
  exact r_callV lkV_X7_53_J6 (C := RJ6) (TT := TJ6) (NN := 3) rfl o1 31 69 rfl rfl (by decide) [.ref a4] rfl rfl (Nat.le_of_ble_eq_true rfl) (Nat.le_of_ble_eq_true rfl) e2 (fun r w' h => Af.sub [0, 1, 2, 3] rfl (k2 r w' h))
theorem e_X7_references_69 {G : Gm} {κ : Nat → Nat} {φ : Nat → Option Nat} (hS : GS G κ φ) {w : Wd} {Q : Rs → Wd → Prop} {a1 : Nat} {a2 : Nat} {a3 : Nat} {m4 : Nat} {x5 : Int32} (k1 : Rn G mX7_references 38 [(1, .ref a1), (2, .ref a2), (3, .ref a3), (4, .int (nI (m4 + 1)))] [] w Q) : Rn G mX7_references 69 [(1, .ref a1), (2, .ref a2), (3, .ref a3), (4, .int (nI m4))] [.int x5] w Q := by
  refine r_pop 32 70 rfl rfl rfl ?_
  refine r_iinc (v := (nI (m4 + 1))) (lv' := [(4, .int (nI (m4 + 1))), (1, .ref a1), (2, .ref a2), (3, .ref a3)]) 33 73 3 rfl rfl rfl (by rw [di_1]; exact nI_add _ _) (Nat.le_of_ble_eq_true rfl) rfl ?_
  refine r_goto 34 38 rfl rfl ?_
  exact r_sub [1, 2, 3, 0] rfl k1
theorem e_X7_refersTo {G : Gm} {κ : Nat → Nat} {φ : Nat → Option Nat} (hS : GS G κ φ) {w : Wd} {Q : Rs → Wd → Prop} {a1 : Nat} {x2 : Int32} {m3 : Nat} {a4 : Nat} {a5 : Nat} {x6 : Int32} {a7 : Nat} {m8 : Nat} (o1 : Lk G w a1 (.inl (nX7, [.int (nI m3), .ref a4, .ref a5]))) (o2 : Lk G w a5 (.inl (nJ6, [.int x6, .ref a7, .int (nI m8)]))) {Q3 : Rs → Wd → Prop} (e3 : Ev G mJ6_iterator [.ref a5] w Q3) (k3 : ∀ r w', Q3 r w' → Af G mX7_refersTo 6 9 [(1, .int x2), (2, .int 0)] [] r w' Q) : Ev G mX7_refersTo [.ref a1, .int x2] w Q := by
  show Rn G mX7_refersTo 0 [(0, .ref a1), (1, .int x2)] [] w Q
  refine r_iconst 0 1 rfl rfl di_0 ?_
  refine r_istore_n (lv' := [(2, .int 0), (0, .ref a1), (1, .int x2)]) 1 2 rfl rfl (Nat.le_of_ble_eq_true rfl) rfl ?_
  refine r_aload_n 2 3 1 rfl rfl rfl ?_
  refine r_get (v := .ref a5) fl_X7_10_X7 3 6 rfl rfl o1 rfl ?_
  exact r_callV lkV_X7_24_J6 (C := RJ6) (TT := TJ6) (NN := 3) rfl o2 4 9 rfl rfl (by decide) [] rfl rfl (Nat.le_of_ble_eq_true rfl) (Nat.le_of_ble_eq_true rfl) e3 (fun r w' h => Af.sub [2, 0] rfl (k3 r w' h))
theorem e_X7_refersTo_9 {G : Gm} {κ : Nat → Nat} {φ : Nat → Option Nat} (hS : GS G κ φ) {w : Wd} {Q : Rs → Wd → Prop} {x1 : Int32} {x2 : Int32} {a3 : Nat} (k1 : Rn G mX7_refersTo 10 [(1, .int x1), (2, .int x2), (3, .ref a3)] [] w Q) : Rn G mX7_refersTo 9 [(1, .int x1), (2, .int x2)] [.ref a3] w Q := by
  refine r_astore_n (lv' := [(3, .ref a3), (1, .int x1), (2, .int x2)]) 5 10 rfl rfl (Nat.le_of_ble_eq_true rfl) rfl ?_
  exact r_sub [1, 2, 0] rfl k1
theorem e_X7_refersTo_10 {G : Gm} {κ : Nat → Nat} {φ : Nat → Option Nat} (hS : GS G κ φ) {w : Wd} {Q : Rs → Wd → Prop} {x1 : Int32} {x2 : Int32} {a3 : Nat} {m4 : Nat} {x5 : Int32} {x6 : Int32} {a7 : Nat} (o1 : Lk G w a3 (.inl (nJ22, [.int (nI m4), .int x5, .int x6, .ref a7]))) {Q2 : Rs → Wd → Prop} (e2 : Ev G mJ22_hasNext [.ref a3] w Q2) (k2 : ∀ r w', Q2 r w' → Af G mX7_refersTo 11 16 [(1, .int x1), (2, .int x2), (3, .ref a3)] [] r w' Q) : Rn G mX7_refersTo 10 [(1, .int x1), (2, .int x2), (3, .ref a3)] [] w Q := by
  refine r_aload_n 6 11 2 rfl rfl rfl ?_
  exact r_callF lkF_X7_28_J22 (C := RJ22) (TT := TJ22) (NN := 4) rfl o1 7 16 rfl rfl (by decide) [] rfl rfl (Nat.le_of_ble_eq_true rfl) (Nat.le_of_ble_eq_true rfl) e2 (fun r w' h => Af.sub [0, 1, 2] rfl (k2 r w' h))
theorem e_X7_refersTo_16 {G : Gm} {κ : Nat → Nat} {φ : Nat → Option Nat} (hS : GS G κ φ) {w : Wd} {Q : Rs → Wd → Prop} {x1 : Int32} {x2 : Int32} {a3 : Nat} {x4 : Int32} {m5 : Nat} {x6 : Int32} {x7 : Int32} {a8 : Nat} (q1 : x4 = 0 → narrow .boolean (.int x2) = .int x2) (k2 : x4 = 0 → Q (.inl (some (.int x2))) w) (o3 : Lk G w a3 (.inl (nJ22, [.int (nI m5), .int x6, .int x7, .ref a8]))) {Q4 : Rs → Wd → Prop} (e4 : ¬ x4 = 0 → Ev G mJ22_next [.ref a3] w Q4) (k4 : ¬ x4 = 0 → ∀ r w', Q4 r w' → Af G mX7_refersTo 20 25 [(1, .int x1), (2, .int x2), (3, .ref a3)] [] r w' Q) : Rn G mX7_refersTo 16 [(1, .int x1), (2, .int x2), (3, .ref a3)] [.int x4] w Q := by
  refine r_if_eq 8 19 81 rfl rfl rfl (fun c1 => ?_) (fun c1 => ?_)
  · refine r_iload_n 38 82 1 rfl rfl rfl ?_
    exact r_iret 39 rfl rfl (q1 c1) (k2 c1)
  · refine r_aload_n 9 20 2 rfl rfl rfl ?_
    exact r_callF lkF_X7_34_J22 (C := RJ22) (TT := TJ22) (NN := 4) rfl o3 10 25 rfl rfl (by decide) [] rfl rfl (Nat.le_of_ble_eq_true rfl) (Nat.le_of_ble_eq_true rfl) (e4 c1) (fun r w' h => Af.sub [0, 1, 2] rfl ((k4 c1) r w' h))
theorem e_X7_refersTo_25 {G : Gm} {κ : Nat → Nat} {φ : Nat → Option Nat} (hS : GS G κ φ) {w : Wd} {Q : Rs → Wd → Prop} {x1 : Int32} {x2 : Int32} {a3 : Nat} {a4 : Nat} {a5 : Nat} {a6 : Nat} {a7 : Nat} (o1 : Lk G w a4 (.inl (nX8, [.ref a5, .ref a6, .ref a7]))) (k2 : Rn G mX7_refersTo 33 [(1, .int x1), (2, .int x2), (3, .ref a3), (4, .ref a4), (5, .int 0)] [] w Q) : Rn G mX7_refersTo 25 [(1, .int x1), (2, .int x2), (3, .ref a3)] [.ref a4] w Q := by
  refine r_castS (C := RX8) (TT := TX8) (NN := 3) rfl q1402 11 28 rfl rfl o1 ?_
  refine r_astore (lv' := [(4, .ref a4), (1, .int x1), (2, .int x2), (3, .ref a3)]) 12 30 rfl rfl (Nat.le_of_ble_eq_true rfl) rfl ?_
  refine r_iconst 13 31 rfl rfl di_0 ?_
  refine r_istore (lv' := [(5, .int 0), (4, .ref a4), (1, .int x1), (2, .int x2), (3, .ref a3)]) 14 33 rfl rfl (Nat.le_of_ble_eq_true rfl) rfl ?_
  exact r_sub [2, 3, 4, 1, 0] rfl k2
theorem e_X7_refersTo_33 {G : Gm} {κ : Nat → Nat} {φ : Nat → Option Nat} (hS : GS G κ φ) {w : Wd} {Q : Rs → Wd → Prop} {x1 : Int32} {x2 : Int32} {a3 : Nat} {a4 : Nat} {m5 : Nat} {a6 : Nat} {a7 : Nat} {a8 : Nat} {n9 : Nat} {g10 : Nat → Int32} (o1 : Lk G w a4 (.inl (nX8, [.ref a6, .ref a7, .ref a8]))) (o2 : Lk G w a8 (arI .int n9 g10)) (bd3 : m5 < 2 ^ 31) (bd4 : n9 < 2 ^ 31) (k5 : a6 = (κ 12) → n9 ≤ m5 → Rn G mX7_refersTo 10 [(1, .int x1), (2, .int x2), (3, .ref a3)] [] w Q) (b6 : a6 = (κ 12) → ¬ n9 ≤ m5 → m5 < n9) (k7 : a6 = (κ 12) → ¬ n9 ≤ m5 → ¬ (g10 m5) = x1 → Rn G mX7_refersTo 33 [(1, .int x1), (2, .int x2), (3, .ref a3), (4, .ref a4), (5, .int (nI (m5 + 1)))] [] w Q) (k8 : a6 = (κ 12) → ¬ n9 ≤ m5 → (g10 m5) = x1 → Rn G mX7_refersTo 33 [(1, .int x1), (2, .int (x2 ||| (1 : Int32))), (3, .ref a3), (4, .ref a4), (5, .int (nI (m5 + 1)))] [] w Q) (k9 : ¬ a6 = (κ 12) → ¬ a6 = (κ 14) → Rn G mX7_refersTo 10 [(1, .int x1), (2, .int x2), (3, .ref a3)] [] w Q) (k10 : ¬ a6 = (κ 12) → a6 = (κ 14) → n9 ≤ m5 → Rn G mX7_refersTo 10 [(1, .int x1), (2, .int x2), (3, .ref a3)] [] w Q) (b11 : ¬ a6 = (κ 12) → a6 = (κ 14) → ¬ n9 ≤ m5 → m5 < n9) (k12 : ¬ a6 = (κ 12) → a6 = (κ 14) → ¬ n9 ≤ m5 → ¬ (g10 m5) = x1 → Rn G mX7_refersTo 33 [(1, .int x1), (2, .int x2), (3, .ref a3), (4, .ref a4), (5, .int (nI (m5 + 1)))] [] w Q) (k13 : ¬ a6 = (κ 12) → a6 = (κ 14) → ¬ n9 ≤ m5 → (g10 m5) = x1 → Rn G mX7_refersTo 33 [(1, .int x1), (2, .int (x2 ||| (1 : Int32))), (3, .ref a3), (4, .ref a4), (5, .int (nI (m5 + 1)))] [] w Q) : Rn G mX7_refersTo 33 [(1, .int x1), (2, .int x2), (3, .ref a3), (4, .ref a4), (5, .int (nI m5))] [] w Q := by
  refine r_aload 15 35 3 rfl rfl rfl ?_
  refine r_callV lkV_X7_40_X8 (C := RX8) (TT := TX8) (NN := 3) rfl o1 16 38 rfl rfl (by decide) [] rfl rfl (Nat.le_of_ble_eq_true rfl) (Nat.le_of_ble_eq_true rfl) (e_X8_refers hS (o1 := o1) (k2 := fun z0_0 => ?_) (k3 := fun z0_0 => fun z0_1 => ?_) (k4 := fun z0_0 => fun z0_1 => ?_)) (fun _ _ h => h)
  · show Rn G mX7_refersTo 38 [(1, .int x1), (2, .int x2), (3, .ref a3), (4, .ref a4), (5, .int (nI m5))] [.int 1] w _
    refine r_if_eq 17 41 78 rfl rfl rfl (fun c => absurd c (by decide)) (fun _ => ?_)
    refine r_iload 18 43 4 rfl rfl rfl ?_
    refine r_aload 19 45 3 rfl rfl rfl ?_
    refine r_getN (i := 2) (host := "ExchangeText") (T := TX8) (C := RX8) (NN := 3) rfl (by decide) q1253 20 48 rfl rfl o1 rfl ?_
    refine r_alen 21 49 rfl rfl o2 ?_
    refine y_icmp_ge (a := m5) (b := n9) bd3 bd4 22 52 78 rfl rfl rfl (fun c2 => ?_) (fun c2 => ?_)
    · refine r_goto 37 10 rfl rfl ?_
      exact r_sub [0, 1, 2] rfl (k5 z0_0 c2)
    · refine r_iload_n 23 53 1 rfl rfl rfl ?_
      refine r_aload 24 55 3 rfl rfl rfl ?_
      refine r_getN (i := 2) (host := "ExchangeText") (T := TX8) (C := RX8) (NN := 3) rfl (by decide) q1253 25 58 rfl rfl o1 rfl ?_
      refine r_iload 26 60 4 rfl rfl rfl ?_
      refine y_iald (i := m5) 27 61 rfl rfl o2 (b6 z0_0 c2) (by omega) ?_
      refine r_iload_n 28 62 0 rfl rfl rfl ?_
      refine r_icmp_ne 29 65 69 rfl rfl rfl (fun c3 => ?_) (fun c3 => ?_)
      · refine r_iconst 32 70 rfl rfl di_0 ?_
        refine r_ior 33 71 rfl rfl ?_
        refine x_eq (show ((x2 ||| (0 : Int32)) : Int32) = x2 by simp) ?_
        refine r_istore_n (lv' := [(2, .int x2), (1, .int x1), (3, .ref a3), (4, .ref a4), (5, .int (nI m5))]) 34 72 rfl rfl (Nat.le_of_ble_eq_true rfl) rfl ?_
        refine r_iinc (v := (nI (m5 + 1))) (lv' := [(5, .int (nI (m5 + 1))), (2, .int x2), (1, .int x1), (3, .ref a3), (4, .ref a4)]) 35 75 4 rfl rfl rfl (by rw [di_1]; exact nI_add _ _) (Nat.le_of_ble_eq_true rfl) rfl ?_
        refine r_goto 36 33 rfl rfl ?_
        exact r_sub [2, 1, 3, 4, 0] rfl (k7 z0_0 c2 c3)
      · refine r_iconst 30 66 rfl rfl di_1 ?_
        refine r_goto 31 70 rfl rfl ?_
        refine r_ior 33 71 rfl rfl ?_
        refine r_istore_n (lv' := [(2, .int (x2 ||| (1 : Int32))), (1, .int x1), (3, .ref a3), (4, .ref a4), (5, .int (nI m5))]) 34 72 rfl rfl (Nat.le_of_ble_eq_true rfl) rfl ?_
        refine r_iinc (v := (nI (m5 + 1))) (lv' := [(5, .int (nI (m5 + 1))), (2, .int (x2 ||| (1 : Int32))), (1, .int x1), (3, .ref a3), (4, .ref a4)]) 35 75 4 rfl rfl rfl (by rw [di_1]; exact nI_add _ _) (Nat.le_of_ble_eq_true rfl) rfl ?_
        refine r_goto 36 33 rfl rfl ?_
        exact r_sub [2, 1, 3, 4, 0] rfl (k8 z0_0 c2 c3)
  · show Rn G mX7_refersTo 38 [(1, .int x1), (2, .int x2), (3, .ref a3), (4, .ref a4), (5, .int (nI m5))] [.int 0] w _
    refine r_if_eq 17 41 78 rfl rfl rfl (fun _ => ?_) (fun c => absurd c (by decide))
    refine r_goto 37 10 rfl rfl ?_
    exact r_sub [0, 1, 2] rfl (k9 z0_0 z0_1)
  · show Rn G mX7_refersTo 38 [(1, .int x1), (2, .int x2), (3, .ref a3), (4, .ref a4), (5, .int (nI m5))] [.int 1] w _
    refine r_if_eq 17 41 78 rfl rfl rfl (fun c => absurd c (by decide)) (fun _ => ?_)
    refine r_iload 18 43 4 rfl rfl rfl ?_
    refine r_aload 19 45 3 rfl rfl rfl ?_
    refine r_getN (i := 2) (host := "ExchangeText") (T := TX8) (C := RX8) (NN := 3) rfl (by decide) q1253 20 48 rfl rfl o1 rfl ?_
    refine r_alen 21 49 rfl rfl o2 ?_
    refine y_icmp_ge (a := m5) (b := n9) (by omega) (by omega) 22 52 78 rfl rfl rfl (fun c3 => ?_) (fun c3 => ?_)
    · refine r_goto 37 10 rfl rfl ?_
      exact r_sub [0, 1, 2] rfl (k10 z0_0 z0_1 c3)
    · refine r_iload_n 23 53 1 rfl rfl rfl ?_
      refine r_aload 24 55 3 rfl rfl rfl ?_
      refine r_getN (i := 2) (host := "ExchangeText") (T := TX8) (C := RX8) (NN := 3) rfl (by decide) q1253 25 58 rfl rfl o1 rfl ?_
      refine r_iload 26 60 4 rfl rfl rfl ?_
      refine y_iald (i := m5) 27 61 rfl rfl o2 (b11 z0_0 z0_1 c3) (by omega) ?_
      refine r_iload_n 28 62 0 rfl rfl rfl ?_
      refine r_icmp_ne 29 65 69 rfl rfl rfl (fun c4 => ?_) (fun c4 => ?_)
      · refine r_iconst 32 70 rfl rfl di_0 ?_
        refine r_ior 33 71 rfl rfl ?_
        refine x_eq (show ((x2 ||| (0 : Int32)) : Int32) = x2 by simp) ?_
        refine r_istore_n (lv' := [(2, .int x2), (1, .int x1), (3, .ref a3), (4, .ref a4), (5, .int (nI m5))]) 34 72 rfl rfl (Nat.le_of_ble_eq_true rfl) rfl ?_
        refine r_iinc (v := (nI (m5 + 1))) (lv' := [(5, .int (nI (m5 + 1))), (2, .int x2), (1, .int x1), (3, .ref a3), (4, .ref a4)]) 35 75 4 rfl rfl rfl (by rw [di_1]; exact nI_add _ _) (Nat.le_of_ble_eq_true rfl) rfl ?_
        refine r_goto 36 33 rfl rfl ?_
        exact r_sub [2, 1, 3, 4, 0] rfl (k12 z0_0 z0_1 c3 c4)
      · refine r_iconst 30 66 rfl rfl di_1 ?_
        refine r_goto 31 70 rfl rfl ?_
        refine r_ior 33 71 rfl rfl ?_
        refine r_istore_n (lv' := [(2, .int (x2 ||| (1 : Int32))), (1, .int x1), (3, .ref a3), (4, .ref a4), (5, .int (nI m5))]) 34 72 rfl rfl (Nat.le_of_ble_eq_true rfl) rfl ?_
        refine r_iinc (v := (nI (m5 + 1))) (lv' := [(5, .int (nI (m5 + 1))), (2, .int (x2 ||| (1 : Int32))), (1, .int x1), (3, .ref a3), (4, .ref a4)]) 35 75 4 rfl rfl rfl (by rw [di_1]; exact nI_add _ _) (Nat.le_of_ble_eq_true rfl) rfl ?_
        refine r_goto 36 33 rfl rfl ?_
        exact r_sub [2, 1, 3, 4, 0] rfl (k13 z0_0 z0_1 c3 c4)
theorem e_X7_isPlaced {G : Gm} {κ : Nat → Nat} {φ : Nat → Option Nat} (hS : GS G κ φ) {w : Wd} {Q : Rs → Wd → Prop} {a1 : Nat} {m2 : Nat} {a3 : Nat} {a4 : Nat} {x5 : Int32} {a6 : Nat} {m7 : Nat} {n8 : Nat} {g9 : Nat → Option Nat} {a10 : Nat} {a11 : Nat} {a12 : Nat} {a13 : Nat} {a14 : Nat} {a15 : Nat} {a16 : Nat} {a17 : Nat} (o1 : Lk G w a1 (.inl (nX7, [.int (nI m2), .ref a3, .ref a4]))) (o2 : Lk G w a4 (.inl (nJ6, [.int x5, .ref a6, .int (nI m7)]))) (bd3 : m7 < 2 ^ 31) (k4 : m7 ≤ 3 → Rn G mX7_isPlaced 59 [(0, .ref a1), (1, .int 0), (2, .int 0)] [] w Q) (o5 : Lk G w a6 (arR "java/lang/Object" n8 g9)) (b6 : ¬ m7 ≤ 3 → 3 < n8) (b7 : ¬ m7 ≤ 3 → n8 < 2 ^ 31) (q8 : ¬ m7 ≤ 3 → (g9 3) = some a10) (o9 : Lk G w a10 (.inl (nX8, [.ref a11, .ref a12, .ref a13]))) (k10 : ¬ m7 ≤ 3 → a11 = (κ 12) → Rn G mX7_isPlaced 59 [(0, .ref a1), (1, .int 1), (2, .int 0)] [] w Q) (b11 : ¬ m7 ≤ 3 → ¬ a11 = (κ 12) → 3 < 2 ^ 31) (f12 : ¬ m7 ≤ 3 → ¬ a11 = (κ 12) → 3 < m7) (q13 : ¬ m7 ≤ 3 → ¬ a11 = (κ 12) → (g9 3) = some a14) (o14 : Lk G w a14 (.inl (nX8, [.ref a15, .ref a16, .ref a17]))) (k15 : ¬ m7 ≤ 3 → ¬ a11 = (κ 12) → ¬ a15 = (κ 16) → Rn G mX7_isPlaced 59 [(0, .ref a1), (1, .int 0), (2, .int 0)] [] w Q) (k16 : ¬ m7 ≤ 3 → ¬ a11 = (κ 12) → a15 = (κ 16) → Rn G mX7_isPlaced 59 [(0, .ref a1), (1, .int 1), (2, .int 0)] [] w Q) : Ev G mX7_isPlaced [.ref a1] w Q := by
  show Rn G mX7_isPlaced 0 [(0, .ref a1)] [] w Q
  refine r_aload_n 0 1 0 rfl rfl rfl ?_
  refine r_get (v := .ref a4) fl_X7_10_X7 1 4 rfl rfl o1 rfl ?_
  refine r_callV lkV_X7_57_J6 (C := RJ6) (TT := TJ6) (NN := 3) rfl o2 2 7 rfl rfl (by decide) [] rfl rfl (Nat.le_of_ble_eq_true rfl) (Nat.le_of_ble_eq_true rfl) (e_J6_size hS (m4 := m7) (o1 := o2) (k2 := ?_)) (fun _ _ h => h)
  show Rn G mX7_isPlaced 7 [(0, .ref a1)] [.int (nI m7)] w _
  refine r_iconst 3 8 rfl rfl di_3 ?_
  refine y_icmp_le (a := m7) (b := 3) bd3 (by decide) 4 11 55 rfl rfl rfl (fun c1 => ?_) (fun c1 => ?_)
  · refine r_iconst 23 56 rfl rfl di_0 ?_
    refine r_istore_n (lv' := [(1, .int 0), (0, .ref a1)]) 24 57 rfl rfl (Nat.le_of_ble_eq_true rfl) rfl ?_
    refine r_iconst 25 58 rfl rfl di_0 ?_
    refine r_istore_n (lv' := [(2, .int 0), (1, .int 0), (0, .ref a1)]) 26 59 rfl rfl (Nat.le_of_ble_eq_true rfl) rfl ?_
    exact r_sub [2, 1, 0] rfl (k4 c1)
  · refine r_aload_n 5 12 0 rfl rfl rfl ?_
    refine r_get (v := .ref a4) fl_X7_10_X7 6 15 rfl rfl o1 rfl ?_
    refine r_iconst 7 16 rfl rfl di_3 ?_
    refine r_callV lkV_X7_61_J6 (C := RJ6) (TT := TJ6) (NN := 3) rfl o2 8 19 rfl rfl (by decide) [.int 3] rfl rfl (Nat.le_of_ble_eq_true rfl) (Nat.le_of_ble_eq_true rfl) (e_J6_get hS (a8 := a10) (m5 := m7) (m2 := 3) (o1 := o2) (b2 := (by omega)) (b3 := (by omega)) (f4 := (by omega)) (o5 := o5) (b6 := (b6 c1)) (b7 := (b7 c1)) (q8 := (q8 c1)) (k9 := ?_)) (fun _ _ h => h)
    show Rn G mX7_isPlaced 19 [(0, .ref a1)] [.ref a10] w _
    refine r_castS (C := RX8) (TT := TX8) (NN := 3) rfl q1402 9 22 rfl rfl o9 ?_
    refine r_getN (i := 0) (host := "ExchangeText") (T := TX8) (C := RX8) (NN := 3) rfl (by decide) q1249 10 25 rfl rfl o9 rfl ?_
    refine r_gets (v := .ref (κ 12)) (hS 12).1 q1903 11 28 rfl rfl ?_
    refine r_acmp_eq (rx := (some a11)) (ry := (some (κ 12))) 12 31 51 rfl rfl rfl rfl rfl (fun c2 => ?_) (fun c2 => ?_)
    · refine r_iconst 21 52 rfl rfl di_1 ?_
      refine r_goto 22 56 rfl rfl ?_
      refine r_istore_n (lv' := [(1, .int 1), (0, .ref a1)]) 24 57 rfl rfl (Nat.le_of_ble_eq_true rfl) rfl ?_
      refine r_iconst 25 58 rfl rfl di_0 ?_
      refine r_istore_n (lv' := [(2, .int 0), (1, .int 1), (0, .ref a1)]) 26 59 rfl rfl (Nat.le_of_ble_eq_true rfl) rfl ?_
      exact r_sub [2, 1, 0] rfl (k10 c1 (Option.some.inj c2))
    · refine r_aload_n 13 32 0 rfl rfl rfl ?_
      refine r_get (v := .ref a4) fl_X7_10_X7 14 35 rfl rfl o1 rfl ?_
      refine r_iconst 15 36 rfl rfl di_3 ?_
      refine r_callV lkV_X7_61_J6 (C := RJ6) (TT := TJ6) (NN := 3) rfl o2 16 39 rfl rfl (by decide) [.int 3] rfl rfl (Nat.le_of_ble_eq_true rfl) (Nat.le_of_ble_eq_true rfl) (e_J6_get hS (a8 := a14) (m5 := m7) (m2 := 3) (o1 := o2) (b2 := (b11 c1 (fun h => c2 (congrArg some h)))) (b3 := bd3) (f4 := (f12 c1 (fun h => c2 (congrArg some h)))) (o5 := o5) (b6 := (b6 c1)) (b7 := (b7 c1)) (q8 := (q13 c1 (fun h => c2 (congrArg some h)))) (k9 := ?_)) (fun _ _ h => h)
      show Rn G mX7_isPlaced 39 [(0, .ref a1)] [.ref a14] w _
      refine r_castS (C := RX8) (TT := TX8) (NN := 3) rfl q1402 17 42 rfl rfl o14 ?_
      refine r_getN (i := 0) (host := "ExchangeText") (T := TX8) (C := RX8) (NN := 3) rfl (by decide) q1249 18 45 rfl rfl o14 rfl ?_
      refine r_gets (v := .ref (κ 16)) (hS 16).1 q1904 19 48 rfl rfl ?_
      refine r_acmp_ne (rx := (some a15)) (ry := (some (κ 16))) 20 51 55 rfl rfl rfl rfl rfl (fun c3 => ?_) (fun c3 => ?_)
      · refine r_iconst 23 56 rfl rfl di_0 ?_
        refine r_istore_n (lv' := [(1, .int 0), (0, .ref a1)]) 24 57 rfl rfl (Nat.le_of_ble_eq_true rfl) rfl ?_
        refine r_iconst 25 58 rfl rfl di_0 ?_
        refine r_istore_n (lv' := [(2, .int 0), (1, .int 0), (0, .ref a1)]) 26 59 rfl rfl (Nat.le_of_ble_eq_true rfl) rfl ?_
        exact r_sub [2, 1, 0] rfl (k15 c1 (fun h => c2 (congrArg some h)) (fun h => c3 (congrArg some h)))
      · refine r_iconst 21 52 rfl rfl di_1 ?_
        refine r_goto 22 56 rfl rfl ?_
        refine r_istore_n (lv' := [(1, .int 1), (0, .ref a1)]) 24 57 rfl rfl (Nat.le_of_ble_eq_true rfl) rfl ?_
        refine r_iconst 25 58 rfl rfl di_0 ?_
        refine r_istore_n (lv' := [(2, .int 0), (1, .int 1), (0, .ref a1)]) 26 59 rfl rfl (Nat.le_of_ble_eq_true rfl) rfl ?_
        exact r_sub [2, 1, 0] rfl (k16 c1 (fun h => c2 (congrArg some h)) (Option.some.inj c3))
theorem e_X7_isPlaced_59 {G : Gm} {κ : Nat → Nat} {φ : Nat → Option Nat} (hS : GS G κ φ) {w : Wd} {Q : Rs → Wd → Prop} {a1 : Nat} {x2 : Int32} {m3 : Nat} {m4 : Nat} {a5 : Nat} {a6 : Nat} {x7 : Int32} {a8 : Nat} {m9 : Nat} {n10 : Nat} {g11 : Nat → Option Nat} {a12 : Nat} {a13 : Nat} {a14 : Nat} {a15 : Nat} (q1 : x2 = 0 → narrow .boolean (.int x2) = .int x2) (k2 : x2 = 0 → Q (.inl (some (.int x2))) w) (bd3 : m3 < 2 ^ 31) (q4 : ¬ x2 = 0 → 3 ≤ m3 → narrow .boolean (.int x2) = .int x2) (k5 : ¬ x2 = 0 → 3 ≤ m3 → Q (.inl (some (.int x2))) w) (o6 : Lk G w a1 (.inl (nX7, [.int (nI m4), .ref a5, .ref a6]))) (o7 : Lk G w a6 (.inl (nJ6, [.int x7, .ref a8, .int (nI m9)]))) (o8 : Lk G w a8 (arR "java/lang/Object" n10 g11)) (b9 : ¬ x2 = 0 → ¬ 3 ≤ m3 → m9 < 2 ^ 31) (f10 : ¬ x2 = 0 → ¬ 3 ≤ m3 → m3 < m9) (b11 : ¬ x2 = 0 → ¬ 3 ≤ m3 → m3 < n10) (b12 : ¬ x2 = 0 → ¬ 3 ≤ m3 → n10 < 2 ^ 31) (q13 : ¬ x2 = 0 → ¬ 3 ≤ m3 → (g11 m3) = some a12) (o14 : Lk G w a12 (.inl (nX8, [.ref a13, .ref a14, .ref a15]))) (k15 : ¬ x2 = 0 → ¬ 3 ≤ m3 → ¬ a13 = (κ 10) → Rn G mX7_isPlaced 59 [(0, .ref a1), (1, .int 0), (2, .int (nI (m3 + 1)))] [] w Q) (k16 : ¬ x2 = 0 → ¬ 3 ≤ m3 → a13 = (κ 10) → Rn G mX7_isPlaced 59 [(0, .ref a1), (1, .int 1), (2, .int (nI (m3 + 1)))] [] w Q) : Rn G mX7_isPlaced 59 [(0, .ref a1), (1, .int x2), (2, .int (nI m3))] [] w Q := by
  refine r_iload_n 27 60 1 rfl rfl rfl ?_
  refine r_if_eq 28 63 100 rfl rfl rfl (fun c1 => ?_) (fun c1 => ?_)
  · refine r_iload_n 46 101 1 rfl rfl rfl ?_
    exact r_iret 47 rfl rfl (q1 c1) (k2 c1)
  · refine r_iload_n 29 64 2 rfl rfl rfl ?_
    refine r_iconst 30 65 rfl rfl di_3 ?_
    refine y_icmp_ge (a := m3) (b := 3) bd3 (by decide) 31 68 100 rfl rfl rfl (fun c2 => ?_) (fun c2 => ?_)
    · refine r_iload_n 46 101 1 rfl rfl rfl ?_
      exact r_iret 47 rfl rfl (q4 c1 c2) (k5 c1 c2)
    · refine r_aload_n 32 69 0 rfl rfl rfl ?_
      refine r_get (v := .ref a6) fl_X7_10_X7 33 72 rfl rfl o6 rfl ?_
      refine r_iload_n 34 73 2 rfl rfl rfl ?_
      refine r_callV lkV_X7_61_J6 (C := RJ6) (TT := TJ6) (NN := 3) rfl o7 35 76 rfl rfl (by decide) [.int (nI m3)] rfl rfl (Nat.le_of_ble_eq_true rfl) (Nat.le_of_ble_eq_true rfl) (e_J6_get hS (a8 := a12) (m5 := m9) (m2 := m3) (o1 := o7) (b2 := (by omega)) (b3 := (b9 c1 c2)) (f4 := (f10 c1 c2)) (o5 := o8) (b6 := (b11 c1 c2)) (b7 := (b12 c1 c2)) (q8 := (q13 c1 c2)) (k9 := ?_)) (fun _ _ h => h)
      show Rn G mX7_isPlaced 76 [(0, .ref a1), (1, .int x2), (2, .int (nI m3))] [.ref a12] w _
      refine r_castS (C := RX8) (TT := TX8) (NN := 3) rfl q1402 36 79 rfl rfl o14 ?_
      refine r_getN (i := 0) (host := "ExchangeText") (T := TX8) (C := RX8) (NN := 3) rfl (by decide) q1249 37 82 rfl rfl o14 rfl ?_
      refine r_gets (v := .ref (κ 10)) (hS 10).1 q1905 38 85 rfl rfl ?_
      refine r_acmp_ne (rx := (some a13)) (ry := (some (κ 10))) 39 88 92 rfl rfl rfl rfl rfl (fun c3 => ?_) (fun c3 => ?_)
      · refine r_iconst 42 93 rfl rfl di_0 ?_
        refine r_istore_n (lv' := [(1, .int 0), (0, .ref a1), (2, .int (nI m3))]) 43 94 rfl rfl (Nat.le_of_ble_eq_true rfl) rfl ?_
        refine r_iinc (v := (nI (m3 + 1))) (lv' := [(2, .int (nI (m3 + 1))), (1, .int 0), (0, .ref a1)]) 44 97 2 rfl rfl rfl (by rw [di_1]; exact nI_add _ _) (Nat.le_of_ble_eq_true rfl) rfl ?_
        refine r_goto 45 59 rfl rfl ?_
        exact r_sub [2, 1, 0] rfl (k15 c1 c2 (fun h => c3 (congrArg some h)))
      · refine r_iconst 40 89 rfl rfl di_1 ?_
        refine r_goto 41 93 rfl rfl ?_
        refine r_istore_n (lv' := [(1, .int 1), (0, .ref a1), (2, .int (nI m3))]) 43 94 rfl rfl (Nat.le_of_ble_eq_true rfl) rfl ?_
        refine r_iinc (v := (nI (m3 + 1))) (lv' := [(2, .int (nI (m3 + 1))), (1, .int 1), (0, .ref a1)]) 44 97 2 rfl rfl rfl (by rw [di_1]; exact nI_add _ _) (Nat.le_of_ble_eq_true rfl) rfl ?_
        refine r_goto 45 59 rfl rfl ?_
        exact r_sub [2, 1, 0] rfl (k16 c1 c2 (Option.some.inj c3))
theorem e_X7_isSame {G : Gm} {κ : Nat → Nat} {φ : Nat → Option Nat} (hS : GS G κ φ) {w : Wd} {Q : Rs → Wd → Prop} {a1 : Nat} {a2 : Nat} {m3 : Nat} {a4 : Nat} {a5 : Nat} {m6 : Nat} {a7 : Nat} {a8 : Nat} {a9 : Nat} {x10 : Int32} {x11 : Int32} (o1 : Lk G w a1 (.inl (nX7, [.int (nI m3), .ref a4, .ref a5]))) (o2 : Lk G w a2 (.inl (nX7, [.int (nI m6), .ref a7, .ref a8]))) (o3 : Lk G w a4 (.inl (nJ2, [.ref a9, .int 0, .int x10, .int x11]))) {Q4 : Rs → Wd → Prop} (e4 : Ev G mJ2_equals [.ref a4, .ref a7] w Q4) (k4 : ∀ r w', Q4 r w' → Af G mX7_isSame 8 11 [(0, .ref a1), (1, .ref a2)] [] r w' Q) : Ev G mX7_isSame [.ref a1, .ref a2] w Q := by
  show Rn G mX7_isSame 0 [(0, .ref a1), (1, .ref a2)] [] w Q
  refine r_aload_n 0 1 0 rfl rfl rfl ?_
  refine r_get (v := .ref a4) fl_X7_20_X7 1 4 rfl rfl o1 rfl ?_
  refine r_aload_n 2 5 1 rfl rfl rfl ?_
  refine r_get (v := .ref a7) fl_X7_20_X7 3 8 rfl rfl o2 rfl ?_
  exact r_callV lkV_X7_80_J2 (C := RJ2) (TT := TJ2) (NN := 4) rfl o3 4 11 rfl rfl (by decide) [.ref a7] rfl rfl (Nat.le_of_ble_eq_true rfl) (Nat.le_of_ble_eq_true rfl) e4 (fun r w' h => Af.sub [0, 1] rfl (k4 r w' h))
theorem e_X7_isSame_11 {G : Gm} {κ : Nat → Nat} {φ : Nat → Option Nat} (hS : GS G κ φ) {w : Wd} {Q : Rs → Wd → Prop} {a1 : Nat} {a2 : Nat} {x3 : Int32} {m4 : Nat} {a5 : Nat} {a6 : Nat} {x7 : Int32} {a8 : Nat} {m9 : Nat} {m10 : Nat} {a11 : Nat} {a12 : Nat} {x13 : Int32} {a14 : Nat} {m15 : Nat} (k1 : x3 = 0 → Rn G mX7_isSame 39 [(0, .ref a1), (1, .ref a2), (2, .int 0), (3, .int 0)] [] w Q) (o2 : Lk G w a1 (.inl (nX7, [.int (nI m4), .ref a5, .ref a6]))) (o3 : Lk G w a6 (.inl (nJ6, [.int x7, .ref a8, .int (nI m9)]))) (o4 : Lk G w a2 (.inl (nX7, [.int (nI m10), .ref a11, .ref a12]))) (o5 : Lk G w a12 (.inl (nJ6, [.int x13, .ref a14, .int (nI m15)]))) (bd6 : m9 < 2 ^ 31) (bd7 : m15 < 2 ^ 31) (k8 : ¬ x3 = 0 → ¬ m9 = m15 → Rn G mX7_isSame 39 [(0, .ref a1), (1, .ref a2), (2, .int 0), (3, .int 0)] [] w Q) (k9 : ¬ x3 = 0 → m9 = m15 → Rn G mX7_isSame 39 [(0, .ref a1), (1, .ref a2), (2, .int 1), (3, .int 0)] [] w Q) : Rn G mX7_isSame 11 [(0, .ref a1), (1, .ref a2)] [.int x3] w Q := by
  refine r_if_eq 5 14 35 rfl rfl rfl (fun c1 => ?_) (fun c1 => ?_)
  · refine r_iconst 15 36 rfl rfl di_0 ?_
    refine r_istore_n (lv' := [(2, .int 0), (0, .ref a1), (1, .ref a2)]) 16 37 rfl rfl (Nat.le_of_ble_eq_true rfl) rfl ?_
    refine r_iconst 17 38 rfl rfl di_0 ?_
    refine r_istore_n (lv' := [(3, .int 0), (2, .int 0), (0, .ref a1), (1, .ref a2)]) 18 39 rfl rfl (Nat.le_of_ble_eq_true rfl) rfl ?_
    exact r_sub [2, 3, 1, 0] rfl (k1 c1)
  · refine r_aload_n 6 15 0 rfl rfl rfl ?_
    refine r_get (v := .ref a6) fl_X7_10_X7 7 18 rfl rfl o2 rfl ?_
    refine r_callV lkV_X7_57_J6 (C := RJ6) (TT := TJ6) (NN := 3) rfl o3 8 21 rfl rfl (by decide) [] rfl rfl (Nat.le_of_ble_eq_true rfl) (Nat.le_of_ble_eq_true rfl) (e_J6_size hS (m4 := m9) (o1 := o3) (k2 := ?_)) (fun _ _ h => h)
    show Rn G mX7_isSame 21 [(0, .ref a1), (1, .ref a2)] [.int (nI m9)] w _
    refine r_aload_n 9 22 1 rfl rfl rfl ?_
    refine r_get (v := .ref a12) fl_X7_10_X7 10 25 rfl rfl o4 rfl ?_
    refine r_callV lkV_X7_57_J6 (C := RJ6) (TT := TJ6) (NN := 3) rfl o5 11 28 rfl rfl (by decide) [] rfl rfl (Nat.le_of_ble_eq_true rfl) (Nat.le_of_ble_eq_true rfl) (e_J6_size hS (m4 := m15) (o1 := o5) (k2 := ?_)) (fun _ _ h => h)
    show Rn G mX7_isSame 28 [(0, .ref a1), (1, .ref a2)] [.int (nI m15), .int (nI m9)] w _
    refine y_icmp_ne (a := m9) (b := m15) bd6 bd7 12 31 35 rfl rfl rfl (fun c2 => ?_) (fun c2 => ?_)
    · refine r_iconst 15 36 rfl rfl di_0 ?_
      refine r_istore_n (lv' := [(2, .int 0), (0, .ref a1), (1, .ref a2)]) 16 37 rfl rfl (Nat.le_of_ble_eq_true rfl) rfl ?_
      refine r_iconst 17 38 rfl rfl di_0 ?_
      refine r_istore_n (lv' := [(3, .int 0), (2, .int 0), (0, .ref a1), (1, .ref a2)]) 18 39 rfl rfl (Nat.le_of_ble_eq_true rfl) rfl ?_
      exact r_sub [2, 3, 1, 0] rfl (k8 c1 c2)
    · refine r_iconst 13 32 rfl rfl di_1 ?_
      refine r_goto 14 36 rfl rfl ?_
      refine r_istore_n (lv' := [(2, .int 1), (0, .ref a1), (1, .ref a2)]) 16 37 rfl rfl (Nat.le_of_ble_eq_true rfl) rfl ?_
      refine r_iconst 17 38 rfl rfl di_0 ?_
      refine r_istore_n (lv' := [(3, .int 0), (2, .int 1), (0, .ref a1), (1, .ref a2)]) 18 39 rfl rfl (Nat.le_of_ble_eq_true rfl) rfl ?_
      exact r_sub [2, 3, 1, 0] rfl (k9 c1 c2)
theorem e_X7_isSame_39 {G : Gm} {κ : Nat → Nat} {φ : Nat → Option Nat} (hS : GS G κ φ) {w : Wd} {Q : Rs → Wd → Prop} {a1 : Nat} {a2 : Nat} {x3 : Int32} {m4 : Nat} {m5 : Nat} {a6 : Nat} {a7 : Nat} {x8 : Int32} {a9 : Nat} {m10 : Nat} {n11 : Nat} {g12 : Nat → Option Nat} {a13 : Nat} {a14 : Nat} {a15 : Nat} {a16 : Nat} {m17 : Nat} {a18 : Nat} {a19 : Nat} {x20 : Int32} {a21 : Nat} {m22 : Nat} {n23 : Nat} {g24 : Nat → Option Nat} {a25 : Nat} {a26 : Nat} {a27 : Nat} {a28 : Nat} (q1 : x3 = 0 → narrow .boolean (.int x3) = .int x3) (k2 : x3 = 0 → Q (.inl (some (.int x3))) w) (o3 : Lk G w a1 (.inl (nX7, [.int (nI m5), .ref a6, .ref a7]))) (o4 : Lk G w a7 (.inl (nJ6, [.int x8, .ref a9, .int (nI m10)]))) (bd5 : m4 < 2 ^ 31) (bd6 : m10 < 2 ^ 31) (q7 : ¬ x3 = 0 → m10 ≤ m4 → narrow .boolean (.int x3) = .int x3) (k8 : ¬ x3 = 0 → m10 ≤ m4 → Q (.inl (some (.int x3))) w) (o9 : Lk G w a9 (arR "java/lang/Object" n11 g12)) (b10 : ¬ x3 = 0 → ¬ m10 ≤ m4 → m4 < n11) (b11 : ¬ x3 = 0 → ¬ m10 ≤ m4 → n11 < 2 ^ 31) (q12 : ¬ x3 = 0 → ¬ m10 ≤ m4 → (g12 m4) = some a13) (o13 : Lk G w a13 (.inl (nX8, [.ref a14, .ref a15, .ref a16]))) (o14 : Lk G w a2 (.inl (nX7, [.int (nI m17), .ref a18, .ref a19]))) (o15 : Lk G w a19 (.inl (nJ6, [.int x20, .ref a21, .int (nI m22)]))) (o16 : Lk G w a21 (arR "java/lang/Object" n23 g24)) (b17 : ¬ x3 = 0 → ¬ m10 ≤ m4 → m22 < 2 ^ 31) (f18 : ¬ x3 = 0 → ¬ m10 ≤ m4 → m4 < m22) (b19 : ¬ x3 = 0 → ¬ m10 ≤ m4 → m4 < n23) (b20 : ¬ x3 = 0 → ¬ m10 ≤ m4 → n23 < 2 ^ 31) (q21 : ¬ x3 = 0 → ¬ m10 ≤ m4 → (g24 m4) = some a25) (o22 : Lk G w a25 (.inl (nX8, [.ref a26, .ref a27, .ref a28]))) {Q23 : Rs → Wd → Prop} (e23 : ¬ x3 = 0 → ¬ m10 ≤ m4 → Ev G mX8_isSame [.ref a13, .ref a25] w Q23) (k23 : ¬ x3 = 0 → ¬ m10 ≤ m4 → ∀ r w', Q23 r w' → Af G mX7_isSame 76 79 [(0, .ref a1), (1, .ref a2), (3, .int (nI m4))] [] r w' Q) : Rn G mX7_isSame 39 [(0, .ref a1), (1, .ref a2), (2, .int x3), (3, .int (nI m4))] [] w Q := by
  refine r_iload_n 19 40 2 rfl rfl rfl ?_
  refine r_if_eq 20 43 86 rfl rfl rfl (fun c1 => ?_) (fun c1 => ?_)
  · refine r_iload_n 40 87 2 rfl rfl rfl ?_
    exact r_iret 41 rfl rfl (q1 c1) (k2 c1)
  · refine r_iload_n 21 44 3 rfl rfl rfl ?_
    refine r_aload_n 22 45 0 rfl rfl rfl ?_
    refine r_get (v := .ref a7) fl_X7_10_X7 23 48 rfl rfl o3 rfl ?_
    refine r_callV lkV_X7_57_J6 (C := RJ6) (TT := TJ6) (NN := 3) rfl o4 24 51 rfl rfl (by decide) [] rfl rfl (Nat.le_of_ble_eq_true rfl) (Nat.le_of_ble_eq_true rfl) (e_J6_size hS (m4 := m10) (o1 := o4) (k2 := ?_)) (fun _ _ h => h)
    show Rn G mX7_isSame 51 [(0, .ref a1), (1, .ref a2), (2, .int x3), (3, .int (nI m4))] [.int (nI m10), .int (nI m4)] w _
    refine y_icmp_ge (a := m4) (b := m10) bd5 bd6 25 54 86 rfl rfl rfl (fun c2 => ?_) (fun c2 => ?_)
    · refine r_iload_n 40 87 2 rfl rfl rfl ?_
      exact r_iret 41 rfl rfl (q7 c1 c2) (k8 c1 c2)
    · refine r_aload_n 26 55 0 rfl rfl rfl ?_
      refine r_get (v := .ref a7) fl_X7_10_X7 27 58 rfl rfl o3 rfl ?_
      refine r_iload_n 28 59 3 rfl rfl rfl ?_
      refine r_callV lkV_X7_61_J6 (C := RJ6) (TT := TJ6) (NN := 3) rfl o4 29 62 rfl rfl (by decide) [.int (nI m4)] rfl rfl (Nat.le_of_ble_eq_true rfl) (Nat.le_of_ble_eq_true rfl) (e_J6_get hS (a8 := a13) (m5 := m10) (m2 := m4) (o1 := o4) (b2 := (by omega)) (b3 := (by omega)) (f4 := (by omega)) (o5 := o9) (b6 := (b10 c1 c2)) (b7 := (b11 c1 c2)) (q8 := (q12 c1 c2)) (k9 := ?_)) (fun _ _ h => h)
      show Rn G mX7_isSame 62 [(0, .ref a1), (1, .ref a2), (2, .int x3), (3, .int (nI m4))] [.ref a13] w _
      refine r_castS (C := RX8) (TT := TX8) (NN := 3) rfl q1402 30 65 rfl rfl o13 ?_
      refine r_aload_n 31 66 1 rfl rfl rfl ?_
      refine r_get (v := .ref a19) fl_X7_10_X7 32 69 rfl rfl o14 rfl ?_
      refine r_iload_n 33 70 3 rfl rfl rfl ?_
      refine r_callV lkV_X7_61_J6 (C := RJ6) (TT := TJ6) (NN := 3) rfl o15 34 73 rfl rfl (by decide) [.int (nI m4)] rfl rfl (Nat.le_of_ble_eq_true rfl) (Nat.le_of_ble_eq_true rfl) (e_J6_get hS (a8 := a25) (m5 := m22) (m2 := m4) (o1 := o15) (b2 := (by omega)) (b3 := (b17 c1 c2)) (f4 := (f18 c1 c2)) (o5 := o16) (b6 := (b19 c1 c2)) (b7 := (b20 c1 c2)) (q8 := (q21 c1 c2)) (k9 := ?_)) (fun _ _ h => h)
      show Rn G mX7_isSame 73 [(0, .ref a1), (1, .ref a2), (2, .int x3), (3, .int (nI m4))] [.ref a25, .ref a13] w _
      refine r_castS (C := RX8) (TT := TX8) (NN := 3) rfl q1402 35 76 rfl rfl o22 ?_
      exact r_callV lkV_X7_85_X8 (C := RX8) (TT := TX8) (NN := 3) rfl o13 36 79 rfl rfl (by decide) [.ref a25] rfl rfl (Nat.le_of_ble_eq_true rfl) (Nat.le_of_ble_eq_true rfl) (e23 c1 c2) (fun r w' h => Af.sub [0, 1, 3] rfl ((k23 c1 c2) r w' h))
theorem e_X7_isSame_79 {G : Gm} {κ : Nat → Nat} {φ : Nat → Option Nat} (hS : GS G κ φ) {w : Wd} {Q : Rs → Wd → Prop} {a1 : Nat} {a2 : Nat} {m3 : Nat} {x4 : Int32} (k1 : Rn G mX7_isSame 39 [(0, .ref a1), (1, .ref a2), (2, .int x4), (3, .int (nI (m3 + 1)))] [] w Q) : Rn G mX7_isSame 79 [(0, .ref a1), (1, .ref a2), (3, .int (nI m3))] [.int x4] w Q := by
  refine r_istore_n (lv' := [(2, .int x4), (0, .ref a1), (1, .ref a2), (3, .int (nI m3))]) 37 80 rfl rfl (Nat.le_of_ble_eq_true rfl) rfl ?_
  refine r_iinc (v := (nI (m3 + 1))) (lv' := [(3, .int (nI (m3 + 1))), (2, .int x4), (0, .ref a1), (1, .ref a2)]) 38 83 3 rfl rfl rfl (by rw [di_1]; exact nI_add _ _) (Nat.le_of_ble_eq_true rfl) rfl ?_
  refine r_goto 39 39 rfl rfl ?_
  exact r_sub [2, 3, 1, 0] rfl k1
theorem e_X7_write {G : Gm} {κ : Nat → Nat} {φ : Nat → Option Nat} (hS : GS G κ φ) {w : Wd} {Q : Rs → Wd → Prop} {a1 : Nat} {a2 : Nat} {a3 : Nat} {x4 : Int32} {m5 : Nat} (o1 : Lk G w a2 (.inl (nJ1, [.ref a3, .int 0, .int x4, .int (nI m5)]))) {Q2 : Rs → Wd → Prop} (e2 : Ev G mJ1_append_3 [.ref a2, .int 35] w Q2) (k2 : ∀ r w', Q2 r w' → Af G mX7_write 3 6 [(0, .ref a1), (1, .ref a2)] [] r w' Q) : Ev G mX7_write [.ref a1, .ref a2] w Q := by
  show Rn G mX7_write 0 [(0, .ref a1), (1, .ref a2)] [] w Q
  refine r_aload_n 0 1 1 rfl rfl rfl ?_
  refine r_bipush 1 3 rfl rfl db_35 ?_
  exact r_callV lkV_X7_89_J1 (C := RJ1) (TT := TJ1) (NN := 4) rfl o1 2 6 rfl rfl (by decide) [.int 35] rfl rfl (Nat.le_of_ble_eq_true rfl) (Nat.le_of_ble_eq_true rfl) e2 (fun r w' h => Af.sub [0, 1] rfl (k2 r w' h))
theorem e_X7_write_6 {G : Gm} {κ : Nat → Nat} {φ : Nat → Option Nat} (hS : GS G κ φ) {w : Wd} {Q : Rs → Wd → Prop} {a1 : Nat} {a2 : Nat} {a3 : Nat} {m4 : Nat} {a5 : Nat} {a6 : Nat} {a7 : Nat} {x8 : Int32} {m9 : Nat} (o1 : Lk G w a1 (.inl (nX7, [.int (nI m4), .ref a5, .ref a6]))) (o2 : Lk G w a3 (.inl (nJ1, [.ref a7, .int 0, .int x8, .int (nI m9)]))) {Q3 : Rs → Wd → Prop} (e3 : Ev G mJ1_append [.ref a3, .int (nI m4)] w Q3) (k3 : ∀ r w', Q3 r w' → Af G mX7_write 10 13 [(0, .ref a1), (1, .ref a2)] [] r w' Q) : Rn G mX7_write 6 [(0, .ref a1), (1, .ref a2)] [.ref a3] w Q := by
  refine r_aload_n 3 7 0 rfl rfl rfl ?_
  refine r_get (v := .int (nI m4)) fl_X7_16_X7 4 10 rfl rfl o1 rfl ?_
  exact r_callV lkV_X7_95_J1 (C := RJ1) (TT := TJ1) (NN := 4) rfl o2 5 13 rfl rfl (by decide) [.int (nI m4)] rfl rfl (Nat.le_of_ble_eq_true rfl) (Nat.le_of_ble_eq_true rfl) e3 (fun r w' h => Af.sub [0, 1] rfl (k3 r w' h))
theorem e_X7_write_13 {G : Gm} {κ : Nat → Nat} {φ : Nat → Option Nat} (hS : GS G κ φ) {w : Wd} {Q : Rs → Wd → Prop} {a1 : Nat} {a2 : Nat} {a3 : Nat} {a4 : Nat} {x5 : Int32} {m6 : Nat} (o1 : Lk G w a3 (.inl (nJ1, [.ref a4, .int 0, .int x5, .int (nI m6)]))) {Q2 : Rs → Wd → Prop} (e2 : Ev G mJ1_append_3 [.ref a3, .int 61] w Q2) (k2 : ∀ r w', Q2 r w' → Af G mX7_write 15 18 [(0, .ref a1), (1, .ref a2)] [] r w' Q) : Rn G mX7_write 13 [(0, .ref a1), (1, .ref a2)] [.ref a3] w Q := by
  refine r_bipush 6 15 rfl rfl db_61 ?_
  exact r_callV lkV_X7_89_J1 (C := RJ1) (TT := TJ1) (NN := 4) rfl o1 7 18 rfl rfl (by decide) [.int 61] rfl rfl (Nat.le_of_ble_eq_true rfl) (Nat.le_of_ble_eq_true rfl) e2 (fun r w' h => Af.sub [0, 1] rfl (k2 r w' h))
theorem e_X7_write_18 {G : Gm} {κ : Nat → Nat} {φ : Nat → Option Nat} (hS : GS G κ φ) {w : Wd} {Q : Rs → Wd → Prop} {a1 : Nat} {a2 : Nat} {a3 : Nat} {m4 : Nat} {a5 : Nat} {a6 : Nat} {a7 : Nat} {x8 : Int32} {m9 : Nat} (o1 : Lk G w a1 (.inl (nX7, [.int (nI m4), .ref a5, .ref a6]))) (o2 : Lk G w a3 (.inl (nJ1, [.ref a7, .int 0, .int x8, .int (nI m9)]))) {Q3 : Rs → Wd → Prop} (e3 : Ev G mJ1_append_2 [.ref a3, .ref a5] w Q3) (k3 : ∀ r w', Q3 r w' → Af G mX7_write 22 25 [(0, .ref a1), (1, .ref a2)] [] r w' Q) : Rn G mX7_write 18 [(0, .ref a1), (1, .ref a2)] [.ref a3] w Q := by
  refine r_aload_n 8 19 0 rfl rfl rfl ?_
  refine r_get (v := .ref a5) fl_X7_20_X7 9 22 rfl rfl o1 rfl ?_
  exact r_callV lkV_X7_98_J1 (C := RJ1) (TT := TJ1) (NN := 4) rfl o2 10 25 rfl rfl (by decide) [.ref a5] rfl rfl (Nat.le_of_ble_eq_true rfl) (Nat.le_of_ble_eq_true rfl) e3 (fun r w' h => Af.sub [0, 1] rfl (k3 r w' h))
theorem e_X7_write_25 {G : Gm} {κ : Nat → Nat} {φ : Nat → Option Nat} (hS : GS G κ φ) {w : Wd} {Q : Rs → Wd → Prop} {a1 : Nat} {a2 : Nat} {a3 : Nat} {a4 : Nat} {x5 : Int32} {m6 : Nat} (o1 : Lk G w a3 (.inl (nJ1, [.ref a4, .int 0, .int x5, .int (nI m6)]))) {Q2 : Rs → Wd → Prop} (e2 : Ev G mJ1_append_3 [.ref a3, .int 40] w Q2) (k2 : ∀ r w', Q2 r w' → Af G mX7_write 27 30 [(0, .ref a1), (1, .ref a2)] [] r w' Q) : Rn G mX7_write 25 [(0, .ref a1), (1, .ref a2)] [.ref a3] w Q := by
  refine r_bipush 11 27 rfl rfl db_40 ?_
  exact r_callV lkV_X7_89_J1 (C := RJ1) (TT := TJ1) (NN := 4) rfl o1 12 30 rfl rfl (by decide) [.int 40] rfl rfl (Nat.le_of_ble_eq_true rfl) (Nat.le_of_ble_eq_true rfl) e2 (fun r w' h => Af.sub [0, 1] rfl (k2 r w' h))
theorem e_X7_write_30 {G : Gm} {κ : Nat → Nat} {φ : Nat → Option Nat} (hS : GS G κ φ) {w : Wd} {Q : Rs → Wd → Prop} {a1 : Nat} {a2 : Nat} {a3 : Nat} (k1 : Rn G mX7_write 33 [(0, .ref a1), (1, .ref a2), (2, .int 0)] [] w Q) : Rn G mX7_write 30 [(0, .ref a1), (1, .ref a2)] [.ref a3] w Q := by
  refine r_pop 13 31 rfl rfl rfl ?_
  refine r_iconst 14 32 rfl rfl di_0 ?_
  refine r_istore_n (lv' := [(2, .int 0), (0, .ref a1), (1, .ref a2)]) 15 33 rfl rfl (Nat.le_of_ble_eq_true rfl) rfl ?_
  exact r_sub [1, 2, 0] rfl k1
theorem e_X7_write_33 {G : Gm} {κ : Nat → Nat} {φ : Nat → Option Nat} (hS : GS G κ φ) {w : Wd} {Q : Rs → Wd → Prop} {a1 : Nat} {a2 : Nat} {m3 : Nat} {m4 : Nat} {a5 : Nat} {a6 : Nat} {x7 : Int32} {a8 : Nat} {m9 : Nat} {a10 : Nat} {x11 : Int32} {m12 : Nat} (o1 : Lk G w a1 (.inl (nX7, [.int (nI m4), .ref a5, .ref a6]))) (o2 : Lk G w a6 (.inl (nJ6, [.int x7, .ref a8, .int (nI m9)]))) (bd3 : m3 < 2 ^ 31) (bd4 : m9 < 2 ^ 31) (o5 : Lk G w a2 (.inl (nJ1, [.ref a10, .int 0, .int x11, .int (nI m12)]))) {Q6 : Rs → Wd → Prop} (e6 : m9 ≤ m3 → Ev G mJ1_append_2 [.ref a2, .ref (κ 27)] w Q6) (k6 : m9 ≤ m3 → ∀ r w', Q6 r w' → Af G mX7_write 84 87 [] [] r w' Q) {Q7 : Rs → Wd → Prop} (e7 : ¬ m9 ≤ m3 → m3 ≤ 0 → Ev G mJ1_append_2 [.ref a2, .ref (κ 26)] w Q7) (k7 : ¬ m9 ≤ m3 → m3 ≤ 0 → ∀ r w', Q7 r w' → Af G mX7_write 56 59 [(0, .ref a1), (1, .ref a2), (2, .int (nI m3))] [] r w' Q) {Q8 : Rs → Wd → Prop} (e8 : ¬ m9 ≤ m3 → ¬ m3 ≤ 0 → Ev G mJ1_append_2 [.ref a2, .ref (κ 25)] w Q8) (k8 : ¬ m9 ≤ m3 → ¬ m3 ≤ 0 → ∀ r w', Q8 r w' → Af G mX7_write 56 59 [(0, .ref a1), (1, .ref a2), (2, .int (nI m3))] [] r w' Q) : Rn G mX7_write 33 [(0, .ref a1), (1, .ref a2), (2, .int (nI m3))] [] w Q := by
  refine r_iload_n 16 34 2 rfl rfl rfl ?_
  refine r_aload_n 17 35 0 rfl rfl rfl ?_
  refine r_get (v := .ref a6) fl_X7_10_X7 18 38 rfl rfl o1 rfl ?_
  refine r_callV lkV_X7_57_J6 (C := RJ6) (TT := TJ6) (NN := 3) rfl o2 19 41 rfl rfl (by decide) [] rfl rfl (Nat.le_of_ble_eq_true rfl) (Nat.le_of_ble_eq_true rfl) (e_J6_size hS (m4 := m9) (o1 := o2) (k2 := ?_)) (fun _ _ h => h)
  show Rn G mX7_write 41 [(0, .ref a1), (1, .ref a2), (2, .int (nI m3))] [.int (nI m9), .int (nI m3)] w _
  refine y_icmp_ge (a := m3) (b := m9) bd3 bd4 20 44 81 rfl rfl rfl (fun c1 => ?_) (fun c1 => ?_)
  · refine r_aload_n 38 82 1 rfl rfl rfl ?_
    refine r_ldcS (tx := ");") (a := κ 27) (hS 27).1 39 84 rfl rfl ?_
    exact r_callV lkV_X7_98_J1 (C := RJ1) (TT := TJ1) (NN := 4) rfl o5 40 87 rfl rfl (by decide) [.ref (κ 27)] rfl rfl (Nat.le_of_ble_eq_true rfl) (Nat.le_of_ble_eq_true rfl) (e6 c1) (fun r w' h => Af.sub [] rfl ((k6 c1) r w' h))
  · refine r_aload_n 21 45 1 rfl rfl rfl ?_
    refine r_iload_n 22 46 2 rfl rfl rfl ?_
    refine y_if_le (a := m3) (by omega) 23 49 54 rfl rfl rfl (fun c2 => ?_) (fun c2 => ?_)
    · refine r_ldcS (tx := "") (a := κ 26) (hS 26).1 26 56 rfl rfl ?_
      exact r_callV lkV_X7_98_J1 (C := RJ1) (TT := TJ1) (NN := 4) rfl o5 27 59 rfl rfl (by decide) [.ref (κ 26)] rfl rfl (Nat.le_of_ble_eq_true rfl) (Nat.le_of_ble_eq_true rfl) (e7 c1 c2) (fun r w' h => Af.sub [0, 1, 2] rfl ((k7 c1 c2) r w' h))
    · refine r_ldcS (tx := ",") (a := κ 25) (hS 25).1 24 51 rfl rfl ?_
      refine r_goto 25 56 rfl rfl ?_
      exact r_callV lkV_X7_98_J1 (C := RJ1) (TT := TJ1) (NN := 4) rfl o5 27 59 rfl rfl (by decide) [.ref (κ 25)] rfl rfl (Nat.le_of_ble_eq_true rfl) (Nat.le_of_ble_eq_true rfl) (e8 c1 c2) (fun r w' h => Af.sub [0, 1, 2] rfl ((k8 c1 c2) r w' h))
theorem e_X7_write_87 {G : Gm} {κ : Nat → Nat} {φ : Nat → Option Nat} (hS : GS G κ φ) {w : Wd} {Q : Rs → Wd → Prop} {a1 : Nat} (k1 : Q (.inl none) w) : Rn G mX7_write 87 [] [.ref a1] w Q := by
  refine r_pop 41 88 rfl rfl rfl ?_
  exact r_vret 42 rfl rfl k1
theorem e_X7_write_59 {G : Gm} {κ : Nat → Nat} {φ : Nat → Option Nat} (hS : GS G κ φ) {w : Wd} {Q : Rs → Wd → Prop} {a1 : Nat} {a2 : Nat} {m3 : Nat} {a4 : Nat} {m5 : Nat} {a6 : Nat} {a7 : Nat} {x8 : Int32} {a9 : Nat} {m10 : Nat} {n11 : Nat} {g12 : Nat → Option Nat} {a13 : Nat} {a14 : Nat} {a15 : Nat} {a16 : Nat} (o1 : Lk G w a1 (.inl (nX7, [.int (nI m5), .ref a6, .ref a7]))) (o2 : Lk G w a7 (.inl (nJ6, [.int x8, .ref a9, .int (nI m10)]))) (o3 : Lk G w a9 (arR "java/lang/Object" n11 g12)) (b4 : m3 < 2 ^ 31) (b5 : m10 < 2 ^ 31) (f6 : m3 < m10) (b7 : m3 < n11) (b8 : n11 < 2 ^ 31) (q9 : (g12 m3) = some a13) (o10 : Lk G w a13 (.inl (nX8, [.ref a14, .ref a15, .ref a16]))) {Q11 : Rs → Wd → Prop} (e11 : Ev G mX8_write [.ref a13, .ref a2] w Q11) (k11 : ∀ r w', Q11 r w' → Af G mX7_write 72 75 [(0, .ref a1), (1, .ref a2), (2, .int (nI m3))] [] r w' Q) : Rn G mX7_write 59 [(0, .ref a1), (1, .ref a2), (2, .int (nI m3))] [.ref a4] w Q := by
  refine r_pop 28 60 rfl rfl rfl ?_
  refine r_aload_n 29 61 0 rfl rfl rfl ?_
  refine r_get (v := .ref a7) fl_X7_10_X7 30 64 rfl rfl o1 rfl ?_
  refine r_iload_n 31 65 2 rfl rfl rfl ?_
  refine r_callV lkV_X7_61_J6 (C := RJ6) (TT := TJ6) (NN := 3) rfl o2 32 68 rfl rfl (by decide) [.int (nI m3)] rfl rfl (Nat.le_of_ble_eq_true rfl) (Nat.le_of_ble_eq_true rfl) (e_J6_get hS (a8 := a13) (m5 := m10) (m2 := m3) (o1 := o2) (b2 := b4) (b3 := b5) (f4 := f6) (o5 := o3) (b6 := b7) (b7 := b8) (q8 := q9) (k9 := ?_)) (fun _ _ h => h)
  show Rn G mX7_write 68 [(0, .ref a1), (1, .ref a2), (2, .int (nI m3))] [.ref a13] w _
  refine r_castS (C := RX8) (TT := TX8) (NN := 3) rfl q1402 33 71 rfl rfl o10 ?_
  refine r_aload_n 34 72 1 rfl rfl rfl ?_
  exact r_callV lkV_X7_105_X8 (C := RX8) (TT := TX8) (NN := 3) rfl o10 35 75 rfl rfl (by decide) [.ref a2] rfl rfl (Nat.le_of_ble_eq_true rfl) (Nat.le_of_ble_eq_true rfl) e11 (fun r w' h => Af.sub [0, 1, 2] rfl (k11 r w' h))
theorem e_X7_write_75 {G : Gm} {κ : Nat → Nat} {φ : Nat → Option Nat} (hS : GS G κ φ) {w : Wd} {Q : Rs → Wd → Prop} {a1 : Nat} {a2 : Nat} {m3 : Nat} (k1 : Rn G mX7_write 33 [(0, .ref a1), (1, .ref a2), (2, .int (nI (m3 + 1)))] [] w Q) : Rn G mX7_write 75 [(0, .ref a1), (1, .ref a2), (2, .int (nI m3))] [] w Q := by
  refine r_iinc (v := (nI (m3 + 1))) (lv' := [(2, .int (nI (m3 + 1))), (0, .ref a1), (1, .ref a2)]) 36 78 2 rfl rfl rfl (by rw [di_1]; exact nI_add _ _) (Nat.le_of_ble_eq_true rfl) rfl ?_
  refine r_goto 37 33 rfl rfl ?_
  exact r_sub [1, 2, 0] rfl k1
