set_option maxRecDepth 100000
theorem lkV_X1_245_X4 : LkV RX1 245 RX4 mX4_size 0 := ⟨okX4_size, q1845, q796, q797, ⟨by decide, by decide⟩, by decide +kernel⟩
theorem lkV_X1_246_X4 : LkV RX1 246 RX4 mX4_takes 2 := ⟨okX4_takes, q1846, q1847, q1848, ⟨by decide, by decide⟩, by decide +kernel⟩
theorem lkV_X1_250_X1 : LkV RX1 250 RX1 mX1_why 1 := ⟨okX1_why, q1841, q1843, qs24, ⟨by decide, by decide⟩, by decide +kernel⟩
theorem lkV_X1_253_X7 : LkV RX1 253 RX7 mX7_refersTo 1 := ⟨okX7_refersTo, q1865, q1866, q1867, ⟨by decide, by decide⟩, by decide +kernel⟩
theorem lkV_X1_257_J21 : LkV RX1 257 RJ21 mJ21_clear 0 := ⟨okJ21_clear, q1886, q1887, q1888, ⟨by decide, by decide⟩, by decide +kernel⟩
theorem lkV_X1_262_J21 : LkV RX1 262 RJ21 mJ21_get 1 := ⟨okJ21_get, q1890, q1852, q1853, ⟨by decide, by decide⟩, by decide +kernel⟩
theorem lkV_X1_264_J21 : LkV RX1 264 RJ21 mJ21_set 1 := ⟨okJ21_set, q1891, q801, q802, ⟨by decide, by decide⟩, by decide +kernel⟩
theorem lkV_X1_266_X1 : LkV RX1 266 RX1 mX1_table 0 := ⟨okX1_table, q1876, q1878, qs25, ⟨by decide, by decide⟩, by decide +kernel⟩
theorem lkI_X1_270 : LkI RX1 270 mJ21_init 0 := ⟨okJ21_init, q1882, q618, rfl, rfl, rfl, ⟨by decide, by decide⟩, by decide +kernel⟩
theorem lkS_X1_271 : LkS RX1 271 mX1_isOnRing 4 := ⟨okX1_isOnRing, q1883, q1884, ⟨by decide, by decide⟩, by decide +kernel⟩
theorem lkV_X1_275_X7 : LkV RX1 275 RX7 mX7_isPlaced 0 := ⟨okX7_isPlaced, q1899, q1900, q1901, ⟨by decide, by decide⟩, by decide +kernel⟩
theorem lkV_X1_280_J1 : LkV RX1 280 RJ1 mJ1_append_2 1 := ⟨okJ1_append_2, q1693, q490, q491, ⟨by decide, by decide⟩, by decide +kernel⟩
theorem lkV_X1_288_J1 : LkV RX1 288 RJ1 mJ1_toString 0 := ⟨okJ1_toString, q1700, q547, q548, ⟨by decide, by decide⟩, by decide +kernel⟩
theorem lkV_X1_283_X8 : LkV RX1 283 RX8 mX8_moved 1 := ⟨okX8_moved, q1695, q1696, q1697, ⟨by decide, by decide⟩, by decide +kernel⟩
theorem lkV_X1_287_X8 : LkV RX1 287 RX8 mX8_write 1 := ⟨okX8_write, q1699, q1495, q1496, ⟨by decide, by decide⟩, by decide +kernel⟩
theorem lkV_X1_292_X1 : LkV RX1 292 RX1 mX1_least 0 := ⟨okX1_least, q1670, q1672, qs19, ⟨by decide, by decide⟩, by decide +kernel⟩
theorem lkV_X1_295_X7 : LkV RX1 295 RX7 mX7_isSame 1 := ⟨okX7_isSame, q1921, q1922, q1923, ⟨by decide, by decide⟩, by decide +kernel⟩
theorem e_X1_why {G : Gm} {κ : Nat → Nat} {φ : Nat → Option Nat} (hS : GS G κ φ) {w : Wd} {Q : Rs → Wd → Prop} {a1 : Nat} {a2 : Nat} {a3 : Nat} {a4 : Nat} {a5 : Nat} {a6 : Nat} (o1 : Lk G w a1 (.inl (nX1, [.ref a3, .ref a4, .ref a5, .ref a6]))) {Q2 : Rs → Wd → Prop} (e2 : Ev G mX1_kindOf [.ref a1, .ref a2] w Q2) (k2 : ∀ r w', Q2 r w' → Af G mX1_why 2 5 [(0, .ref a1), (1, .ref a2)] [] r w' Q) : Ev G mX1_why [.ref a1, .ref a2] w Q := by
  show Rn G mX1_why 0 [(0, .ref a1), (1, .ref a2)] [] w Q
  refine r_aload_n 0 1 0 rfl rfl rfl ?_
  refine r_aload_n 1 2 1 rfl rfl rfl ?_
  exact r_callV lkV_X1_203_X1 (C := RX1) (TT := TX1) (NN := 4) rfl o1 2 5 rfl rfl (by decide) [.ref a2] rfl rfl (Nat.le_of_ble_eq_true rfl) (Nat.le_of_ble_eq_true rfl) e2 (fun r w' h => Af.sub [0, 1] rfl (k2 r w' h))
theorem e_X1_why_5 {G : Gm} {κ : Nat → Nat} {φ : Nat → Option Nat} (hS : GS G κ φ) {w : Wd} {Q : Rs → Wd → Prop} {a1 : Nat} {a2 : Nat} {x3 : Int32} (k1 : ¬ x3 = (-1) → Rn G mX1_why 13 [(0, .ref a1), (1, .ref a2), (2, .int x3)] [] w Q) (k2 : x3 = (-1) → Q (.inl (some (.int 1))) w) : Rn G mX1_why 5 [(0, .ref a1), (1, .ref a2)] [.int x3] w Q := by
  refine r_istore_n (lv' := [(2, .int x3), (0, .ref a1), (1, .ref a2)]) 3 6 rfl rfl (Nat.le_of_ble_eq_true rfl) rfl ?_
  refine r_iload_n 4 7 0 rfl rfl rfl ?_
  refine r_iconst 5 8 rfl rfl di_m1 ?_
  refine r_icmp_ne 6 11 13 rfl rfl rfl (fun c1 => ?_) (fun c1 => ?_)
  · exact r_sub [1, 2, 0] rfl (k1 c1)
  · refine r_iconst 7 12 rfl rfl di_1 ?_
    exact r_iret 8 rfl rfl rfl (k2 c1)
theorem e_X1_why_13 {G : Gm} {κ : Nat → Nat} {φ : Nat → Option Nat} (hS : GS G κ φ) {w : Wd} {Q : Rs → Wd → Prop} {a1 : Nat} {a2 : Nat} {m3 : Nat} {a4 : Nat} {a5 : Nat} {a6 : Nat} {a7 : Nat} {x8 : Int32} {a9 : Nat} {m10 : Nat} {n11 : Nat} {g12 : Nat → Option Nat} {a13 : Nat} {a14 : Nat} {a15 : Nat} {a16 : Nat} {m17 : Nat} {a18 : Nat} {a19 : Nat} {x20 : Int32} {a21 : Nat} {m22 : Nat} {x23 : Int32} {a24 : Nat} {m25 : Nat} (o1 : Lk G w a1 (.inl (nX1, [.ref a4, .ref a5, .ref a6, .ref a7]))) (o2 : Lk G w a5 (.inl (nJ6, [.int x8, .ref a9, .int (nI m10)]))) (o3 : Lk G w a9 (arR "java/lang/Object" n11 g12)) (b4 : m3 < 2 ^ 31) (b5 : m10 < 2 ^ 31) (f6 : m3 < m10) (b7 : m3 < n11) (b8 : n11 < 2 ^ 31) (q9 : (g12 m3) = some a13) (o10 : Lk G w a13 (.inl (nX4, [.ref a14, .ref a15, .ref a16]))) (o11 : Lk G w a2 (.inl (nX7, [.int (nI m17), .ref a18, .ref a19]))) (o12 : Lk G w a19 (.inl (nJ6, [.int x20, .ref a21, .int (nI m22)]))) (o13 : Lk G w a15 (.inl (nJ6, [.int x23, .ref a24, .int (nI m25)]))) (bd14 : m22 < 2 ^ 31) (bd15 : m25 < 2 ^ 31) (k16 : m22 = m25 → Rn G mX1_why 44 [(1, .ref a2), (3, .ref a13), (4, .int 0)] [] w Q) (k17 : ¬ m22 = m25 → Q (.inl (some (.int 2))) w) : Rn G mX1_why 13 [(0, .ref a1), (1, .ref a2), (2, .int (nI m3))] [] w Q := by
  refine r_aload_n 9 14 0 rfl rfl rfl ?_
  refine r_get (v := .ref a5) fl_X1_19_X1 10 17 rfl rfl o1 rfl ?_
  refine r_iload_n 11 18 2 rfl rfl rfl ?_
  refine r_callV lkV_X1_170_J6 (C := RJ6) (TT := TJ6) (NN := 3) rfl o2 12 21 rfl rfl (by decide) [.int (nI m3)] rfl rfl (Nat.le_of_ble_eq_true rfl) (Nat.le_of_ble_eq_true rfl) (e_J6_get hS (a8 := a13) (m5 := m10) (m2 := m3) (o1 := o2) (b2 := b4) (b3 := b5) (f4 := f6) (o5 := o3) (b6 := b7) (b7 := b8) (q8 := q9) (k9 := ?_)) (fun _ _ h => h)
  show Rn G mX1_why 21 [(0, .ref a1), (1, .ref a2), (2, .int (nI m3))] [.ref a13] w _
  refine r_castS (C := RX4) (TT := TX4) (NN := 3) rfl q1784 13 24 rfl rfl o10 ?_
  refine r_astore_n (lv' := [(3, .ref a13), (0, .ref a1), (1, .ref a2), (2, .int (nI m3))]) 14 25 rfl rfl (Nat.le_of_ble_eq_true rfl) rfl ?_
  refine r_aload_n 15 26 2 rfl rfl rfl ?_
  refine r_get (v := .ref a19) fl_X1_155_X7 16 29 rfl rfl o11 rfl ?_
  refine r_callV lkV_X1_84_J6 (C := RJ6) (TT := TJ6) (NN := 3) rfl o12 17 32 rfl rfl (by decide) [] rfl rfl (Nat.le_of_ble_eq_true rfl) (Nat.le_of_ble_eq_true rfl) (e_J6_size hS (m4 := m22) (o1 := o12) (k2 := ?_)) (fun _ _ h => h)
  show Rn G mX1_why 32 [(3, .ref a13), (0, .ref a1), (1, .ref a2), (2, .int (nI m3))] [.int (nI m22)] w _
  refine r_aload_n 18 33 0 rfl rfl rfl ?_
  refine r_callV lkV_X1_245_X4 (C := RX4) (TT := TX4) (NN := 3) rfl o10 19 36 rfl rfl (by decide) [] rfl rfl (Nat.le_of_ble_eq_true rfl) (Nat.le_of_ble_eq_true rfl) (e_X4_size hS (m7 := m25) (o1 := o10) (o2 := o13) (k3 := ?_)) (fun _ _ h => h)
  show Rn G mX1_why 36 [(3, .ref a13), (0, .ref a1), (1, .ref a2), (2, .int (nI m3))] [.int (nI m25), .int (nI m22)] w _
  refine y_icmp_eq (a := m22) (b := m25) bd14 bd15 20 39 41 rfl rfl rfl (fun c1 => ?_) (fun c1 => ?_)
  · refine r_iconst 23 42 rfl rfl di_0 ?_
    refine r_istore (lv' := [(4, .int 0), (3, .ref a13), (0, .ref a1), (1, .ref a2), (2, .int (nI m3))]) 24 44 rfl rfl (Nat.le_of_ble_eq_true rfl) rfl ?_
    exact r_sub [3, 1, 0] rfl (k16 c1)
  · refine r_iconst 21 40 rfl rfl di_2 ?_
    exact r_iret 22 rfl rfl rfl (k17 c1)
theorem e_X1_why_44 {G : Gm} {κ : Nat → Nat} {φ : Nat → Option Nat} (hS : GS G κ φ) {w : Wd} {Q : Rs → Wd → Prop} {a1 : Nat} {a2 : Nat} {m3 : Nat} {a4 : Nat} {a5 : Nat} {a6 : Nat} {x7 : Int32} {a8 : Nat} {m9 : Nat} {m10 : Nat} {a11 : Nat} {a12 : Nat} {x13 : Int32} {a14 : Nat} {m15 : Nat} {n16 : Nat} {g17 : Nat → Option Nat} {a18 : Nat} {a19 : Nat} {a20 : Nat} {a21 : Nat} (o1 : Lk G w a2 (.inl (nX4, [.ref a4, .ref a5, .ref a6]))) (o2 : Lk G w a5 (.inl (nJ6, [.int x7, .ref a8, .int (nI m9)]))) (bd3 : m3 < 2 ^ 31) (bd4 : m9 < 2 ^ 31) (k5 : m9 ≤ m3 → Q (.inl (some (.int 0))) w) (o6 : Lk G w a1 (.inl (nX7, [.int (nI m10), .ref a11, .ref a12]))) (o7 : Lk G w a12 (.inl (nJ6, [.int x13, .ref a14, .int (nI m15)]))) (o8 : Lk G w a14 (arR "java/lang/Object" n16 g17)) (b9 : ¬ m9 ≤ m3 → m15 < 2 ^ 31) (f10 : ¬ m9 ≤ m3 → m3 < m15) (b11 : ¬ m9 ≤ m3 → m3 < n16) (b12 : ¬ m9 ≤ m3 → n16 < 2 ^ 31) (q13 : ¬ m9 ≤ m3 → (g17 m3) = some a18) (o14 : Lk G w a18 (.inl (nX8, [.ref a19, .ref a20, .ref a21]))) {Q15 : Rs → Wd → Prop} (e15 : ¬ m9 ≤ m3 → Ev G mX4_takes [.ref a2, .int (nI m3), .ref a18] w Q15) (k15 : ¬ m9 ≤ m3 → ∀ r w', Q15 r w' → Af G mX1_why 68 71 [(1, .ref a1), (3, .ref a2), (4, .int (nI m3))] [] r w' Q) : Rn G mX1_why 44 [(1, .ref a1), (3, .ref a2), (4, .int (nI m3))] [] w Q := by
  refine r_iload 25 46 2 rfl rfl rfl ?_
  refine r_aload_n 26 47 1 rfl rfl rfl ?_
  refine r_callV lkV_X1_245_X4 (C := RX4) (TT := TX4) (NN := 3) rfl o1 27 50 rfl rfl (by decide) [] rfl rfl (Nat.le_of_ble_eq_true rfl) (Nat.le_of_ble_eq_true rfl) (e_X4_size hS (m7 := m9) (o1 := o1) (o2 := o2) (k3 := ?_)) (fun _ _ h => h)
  show Rn G mX1_why 50 [(1, .ref a1), (3, .ref a2), (4, .int (nI m3))] [.int (nI m9), .int (nI m3)] w _
  refine y_icmp_ge (a := m3) (b := m9) bd3 bd4 28 53 88 rfl rfl rfl (fun c1 => ?_) (fun c1 => ?_)
  · refine r_iconst 46 89 rfl rfl di_0 ?_
    exact r_iret 47 rfl rfl rfl (k5 c1)
  · refine r_aload_n 29 54 1 rfl rfl rfl ?_
    refine r_iload 30 56 2 rfl rfl rfl ?_
    refine r_aload_n 31 57 0 rfl rfl rfl ?_
    refine r_get (v := .ref a12) fl_X1_155_X7 32 60 rfl rfl o6 rfl ?_
    refine r_iload 33 62 2 rfl rfl rfl ?_
    refine r_callV lkV_X1_170_J6 (C := RJ6) (TT := TJ6) (NN := 3) rfl o7 34 65 rfl rfl (by decide) [.int (nI m3)] rfl rfl (Nat.le_of_ble_eq_true rfl) (Nat.le_of_ble_eq_true rfl) (e_J6_get hS (a8 := a18) (m5 := m15) (m2 := m3) (o1 := o7) (b2 := (by omega)) (b3 := (b9 c1)) (f4 := (f10 c1)) (o5 := o8) (b6 := (b11 c1)) (b7 := (b12 c1)) (q8 := (q13 c1)) (k9 := ?_)) (fun _ _ h => h)
    show Rn G mX1_why 65 [(1, .ref a1), (3, .ref a2), (4, .int (nI m3))] [.ref a18, .int (nI m3), .ref a2] w _
    refine r_castS (C := RX8) (TT := TX8) (NN := 3) rfl q1690 35 68 rfl rfl o14 ?_
    exact r_callV lkV_X1_246_X4 (C := RX4) (TT := TX4) (NN := 3) rfl o1 36 71 rfl rfl (by decide) [.int (nI m3), .ref a18] rfl rfl (Nat.le_of_ble_eq_true rfl) (Nat.le_of_ble_eq_true rfl) (e15 c1) (fun r w' h => Af.sub [0, 1, 2] rfl ((k15 c1) r w' h))
theorem e_X1_why_71 {G : Gm} {κ : Nat → Nat} {φ : Nat → Option Nat} (hS : GS G κ φ) {w : Wd} {Q : Rs → Wd → Prop} {a1 : Nat} {a2 : Nat} {m3 : Nat} {x4 : Int32} (k1 : ¬ x4 = 0 → Rn G mX1_why 44 [(1, .ref a1), (3, .ref a2), (4, .int (nI (m3 + 1)))] [] w Q) (k2 : x4 = 0 → Q (.inl (some (.int (nI (3 + (8 * m3)))))) w) : Rn G mX1_why 71 [(1, .ref a1), (3, .ref a2), (4, .int (nI m3))] [.int x4] w Q := by
  refine r_if_ne 37 74 82 rfl rfl rfl (fun c1 => ?_) (fun c1 => ?_)
  · refine r_iinc (v := (nI (m3 + 1))) (lv' := [(4, .int (nI (m3 + 1))), (1, .ref a1), (3, .ref a2)]) 44 85 2 rfl rfl rfl (by rw [di_1]; exact nI_add _ _) (Nat.le_of_ble_eq_true rfl) rfl ?_
    refine r_goto 45 44 rfl rfl ?_
    exact r_sub [1, 2, 0] rfl (k1 c1)
  · refine r_iconst 38 75 rfl rfl di_3 ?_
    refine r_bipush 39 77 rfl rfl db_8 ?_
    refine r_iload 40 79 2 rfl rfl rfl ?_
    refine r_imul 41 80 rfl rfl ?_
    refine x_eq (y := (nI (8 * m3))) (n_mul _ _) ?_
    refine r_iadd 42 81 rfl rfl ?_
    refine x_eq (y := (nI (3 + (8 * m3)))) (nI_add _ _) ?_
    exact r_iret 43 rfl rfl rfl (k2 c1)
theorem e_X1_wrong {G : Gm} {κ : Nat → Nat} {φ : Nat → Option Nat} (hS : GS G κ φ) {w : Wd} {Q : Rs → Wd → Prop} {a1 : Nat} {x2 : Int32} {x3 : Int32} {a4 : Nat} {a5 : Nat} {a6 : Nat} {a7 : Nat} {p8 : Option Nat} {p9 : Option Nat} {p10 : Option Nat} {m11 : Nat} {x12 : Int32} {p13 : Option Nat} {p14 : Option Nat} {p15 : Option Nat} (hg : 18 ≤ w.2.2) (k1 : x2 < 0 → Q (.inr w.2.1) (wnew w (.inl (nJ12, [.null])) 6)) (k2 : ¬ x2 < 0 → x3 < 0 → Q (.inr w.2.1) (wnew w (.inl (nJ12, [.null])) 6)) (k3 : ¬ x2 < 0 → ¬ x3 < 0 → (2 : Int32) < x3 → Q (.inr w.2.1) (wnew w (.inl (nJ12, [.null])) 6)) (o4 : Lk G w a1 (.inl (nX1, [.ref a4, .ref a5, .ref a6, .ref a7]))) (o5 : Lk G w a6 (.inl (nJ8, [va_rf p8, va_rf p9, .null, va_rf p10, .int (nI m11), .int x12, va_rf p13, va_rf p14, va_rf p15]))) {Q6 : Rs → Wd → Prop} (e6 : ¬ x2 < 0 → ¬ x3 < 0 → ¬ (2 : Int32) < x3 → Ev G mJ8_entrySet [.ref a6] w Q6) (k6 : ¬ x2 < 0 → ¬ x3 < 0 → ¬ (2 : Int32) < x3 → ∀ r w', Q6 r w' → Af G mX1_wrong 27 30 [(0, .ref a1), (2, .int x3), (3, .int x2)] [] r w' Q) : Ev G mX1_wrong [.ref a1, .int x2, .int x3] w Q := by
  show Rn G mX1_wrong 0 [(0, .ref a1), (1, .int x2), (2, .int x3)] [] w Q
  refine r_iload_n 0 1 1 rfl rfl rfl ?_
  refine r_if_lt 1 4 17 rfl rfl rfl (fun c1 => ?_) (fun c1 => ?_)
  · refine r_iconst 9 18 rfl rfl di_0 ?_
    refine r_callS lkS_X1_38 10 21 rfl rfl (by decide) [.int 0] rfl rfl (Nat.le_of_ble_eq_true rfl) (Nat.le_of_ble_eq_true rfl) (e_X1_need hS (hg := by show 18 ≤ w.2.2; omega) (k1 := fun z0 => absurd z0 (by decide)) (k2 := fun z1_0 => ?_)) (fun _ _ h => h)
    show Th G mX1_wrong 18 [(0, .ref a1), (1, .int x2), (2, .int x3)] [] w.2.1 (wnew w (.inl (nJ12, [.null])) 6) _
    exact th_out rfl (k1 c1)
  · refine r_iload_n 2 5 2 rfl rfl rfl ?_
    refine r_if_lt 3 8 17 rfl rfl rfl (fun c2 => ?_) (fun c2 => ?_)
    · refine r_iconst 9 18 rfl rfl di_0 ?_
      refine r_callS lkS_X1_38 10 21 rfl rfl (by decide) [.int 0] rfl rfl (Nat.le_of_ble_eq_true rfl) (Nat.le_of_ble_eq_true rfl) (e_X1_need hS (hg := by show 18 ≤ w.2.2; omega) (k1 := fun z0 => absurd z0 (by decide)) (k2 := fun z2_0 => ?_)) (fun _ _ h => h)
      show Th G mX1_wrong 18 [(0, .ref a1), (1, .int x2), (2, .int x3)] [] w.2.1 (wnew w (.inl (nJ12, [.null])) 6) _
      exact th_out rfl (k2 c1 c2)
    · refine r_iload_n 4 9 2 rfl rfl rfl ?_
      refine r_iconst 5 10 rfl rfl di_2 ?_
      refine r_icmp_gt 6 13 17 rfl rfl rfl (fun c3 => ?_) (fun c3 => ?_)
      · refine r_iconst 9 18 rfl rfl di_0 ?_
        refine r_callS lkS_X1_38 10 21 rfl rfl (by decide) [.int 0] rfl rfl (Nat.le_of_ble_eq_true rfl) (Nat.le_of_ble_eq_true rfl) (e_X1_need hS (hg := by show 18 ≤ w.2.2; omega) (k1 := fun z0 => absurd z0 (by decide)) (k2 := fun z3_0 => ?_)) (fun _ _ h => h)
        show Th G mX1_wrong 18 [(0, .ref a1), (1, .int x2), (2, .int x3)] [] w.2.1 (wnew w (.inl (nJ12, [.null])) 6) _
        exact th_out rfl (k3 c1 c2 c3)
      · refine r_iconst 7 14 rfl rfl di_1 ?_
        refine r_goto 8 18 rfl rfl ?_
        refine r_callS lkS_X1_38 10 21 rfl rfl (by decide) [.int 1] rfl rfl (Nat.le_of_ble_eq_true rfl) (Nat.le_of_ble_eq_true rfl) (e_X1_need hS (hg := by show 18 ≤ w.2.2; omega) (k2 := fun z0 => absurd z0 (by decide)) (k1 := fun z3_0 => ?_)) (fun _ _ h => h)
        show Rn G mX1_wrong 21 [(0, .ref a1), (1, .int x2), (2, .int x3)] [] w _
        refine r_iload_n 11 22 1 rfl rfl rfl ?_
        refine r_istore_n (lv' := [(3, .int x2), (0, .ref a1), (1, .int x2), (2, .int x3)]) 12 23 rfl rfl (Nat.le_of_ble_eq_true rfl) rfl ?_
        refine r_aload_n 13 24 1 rfl rfl rfl ?_
        refine r_get (v := .ref a6) fl_X1_26_X1 14 27 rfl rfl o4 rfl ?_
        exact r_callV lkV_X1_130_J8 (C := RJ8) (TT := TJ8) (NN := 9) rfl o5 15 30 rfl rfl (by decide) [] rfl rfl (Nat.le_of_ble_eq_true rfl) (Nat.le_of_ble_eq_true rfl) (e6 c1 c2 c3) (fun r w' h => Af.sub [1, 3, 0] rfl ((k6 c1 c2 c3) r w' h))
theorem e_X1_wrong_30 {G : Gm} {κ : Nat → Nat} {φ : Nat → Option Nat} (hS : GS G κ φ) {w : Wd} {Q : Rs → Wd → Prop} {a1 : Nat} {x2 : Int32} {x3 : Int32} {a4 : Nat} {a5 : Nat} (o1 : Lk G w a4 (.inl (nJ31, [.ref a5]))) {Q2 : Rs → Wd → Prop} (e2 : Ev G mJ31_iterator [.ref a4] w Q2) (k2 : ∀ r w', Q2 r w' → Af G mX1_wrong 30 35 [(0, .ref a1), (2, .int x2), (3, .int x3)] [] r w' Q) : Rn G mX1_wrong 30 [(0, .ref a1), (2, .int x2), (3, .int x3)] [.ref a4] w Q := by
  exact r_callF lkF_X1_134_J31 (C := RJ31) (TT := TJ31) (NN := 1) rfl o1 16 35 rfl rfl (by decide) [] rfl rfl (Nat.le_of_ble_eq_true rfl) (Nat.le_of_ble_eq_true rfl) e2 (fun r w' h => Af.sub [0, 1, 2] rfl (k2 r w' h))
theorem e_X1_wrong_35 {G : Gm} {κ : Nat → Nat} {φ : Nat → Option Nat} (hS : GS G κ φ) {w : Wd} {Q : Rs → Wd → Prop} {a1 : Nat} {x2 : Int32} {x3 : Int32} {a4 : Nat} (k1 : Rn G mX1_wrong 37 [(0, .ref a1), (2, .int x2), (3, .int x3), (4, .ref a4)] [] w Q) : Rn G mX1_wrong 35 [(0, .ref a1), (2, .int x2), (3, .int x3)] [.ref a4] w Q := by
  refine r_astore (lv' := [(4, .ref a4), (0, .ref a1), (2, .int x2), (3, .int x3)]) 17 37 rfl rfl (Nat.le_of_ble_eq_true rfl) rfl ?_
  exact r_sub [1, 2, 3, 0] rfl k1
theorem e_X1_wrong_37 {G : Gm} {κ : Nat → Nat} {φ : Nat → Option Nat} (hS : GS G κ φ) {w : Wd} {Q : Rs → Wd → Prop} {a1 : Nat} {x2 : Int32} {x3 : Int32} {a4 : Nat} {p5 : Option Nat} {p6 : Option Nat} {x7 : Int32} {a8 : Nat} (o1 : Lk G w a4 (.inl (nJ33, [va_rf p5, va_rf p6, .int x7, .ref a8]))) {Q2 : Rs → Wd → Prop} (e2 : Ev G mJ32_hasNext [.ref a4] w Q2) (k2 : ∀ r w', Q2 r w' → Af G mX1_wrong 39 44 [(0, .ref a1), (2, .int x2), (3, .int x3), (4, .ref a4)] [] r w' Q) : Rn G mX1_wrong 37 [(0, .ref a1), (2, .int x2), (3, .int x3), (4, .ref a4)] [] w Q := by
  refine r_aload 18 39 3 rfl rfl rfl ?_
  exact r_callF lkF_X1_110_J33 (C := RJ33) (TT := TJ33) (NN := 4) rfl o1 19 44 rfl rfl (by decide) [] rfl rfl (Nat.le_of_ble_eq_true rfl) (Nat.le_of_ble_eq_true rfl) e2 (fun r w' h => Af.sub [0, 1, 2, 3] rfl (k2 r w' h))
theorem e_X1_wrong_44 {G : Gm} {κ : Nat → Nat} {φ : Nat → Option Nat} (hS : GS G κ φ) {w : Wd} {Q : Rs → Wd → Prop} {a1 : Nat} {x2 : Int32} {x3 : Int32} {a4 : Nat} {x5 : Int32} {p6 : Option Nat} {p7 : Option Nat} {x8 : Int32} {a9 : Nat} (k1 : x5 = 0 → Q (.inl (some (.int (-1)))) w) (o2 : Lk G w a4 (.inl (nJ33, [va_rf p6, va_rf p7, .int x8, .ref a9]))) {Q3 : Rs → Wd → Prop} (e3 : ¬ x5 = 0 → Ev G mJ33_next [.ref a4] w Q3) (k3 : ¬ x5 = 0 → ∀ r w', Q3 r w' → Af G mX1_wrong 49 54 [(0, .ref a1), (2, .int x2), (3, .int x3), (4, .ref a4)] [] r w' Q) : Rn G mX1_wrong 44 [(0, .ref a1), (2, .int x2), (3, .int x3), (4, .ref a4)] [.int x5] w Q := by
  refine r_if_eq 20 47 142 rfl rfl rfl (fun c1 => ?_) (fun c1 => ?_)
  · refine r_iconst 62 143 rfl rfl di_m1 ?_
    exact r_iret 63 rfl rfl rfl (k1 c1)
  · refine r_aload 21 49 3 rfl rfl rfl ?_
    exact r_callF lkF_X1_115_J33 (C := RJ33) (TT := TJ33) (NN := 4) rfl o2 22 54 rfl rfl (by decide) [] rfl rfl (Nat.le_of_ble_eq_true rfl) (Nat.le_of_ble_eq_true rfl) (e3 c1) (fun r w' h => Af.sub [0, 1, 2, 3] rfl ((k3 c1) r w' h))
theorem e_X1_wrong_54 {G : Gm} {κ : Nat → Nat} {φ : Nat → Option Nat} (hS : GS G κ φ) {w : Wd} {Q : Rs → Wd → Prop} {a1 : Nat} {x2 : Int32} {x3 : Int32} {a4 : Nat} {a5 : Nat} {a6 : Nat} {a7 : Nat} {p8 : Option Nat} {p9 : Option Nat} {p10 : Option Nat} {x11 : Int32} {m12 : Nat} {a13 : Nat} {a14 : Nat} {a15 : Nat} {a16 : Nat} {a17 : Nat} {a18 : Nat} (o1 : Lk G w a5 (.inl (nJ29, [.ref a6, .ref a7, va_rf p8, va_rf p9, va_rf p10, .int x11]))) (o2 : Lk G w a7 (.inl (nX7, [.int (nI m12), .ref a13, .ref a14]))) (o3 : Lk G w a1 (.inl (nX1, [.ref a15, .ref a16, .ref a17, .ref a18]))) {Q4 : Rs → Wd → Prop} (e4 : Ev G mX1_why [.ref a1, .ref a7] w Q4) (k4 : ∀ r w', Q4 r w' → Af G mX1_wrong 70 73 [(0, .ref a1), (2, .int x2), (3, .int x3), (4, .ref a4), (5, .ref a5)] [] r w' Q) : Rn G mX1_wrong 54 [(0, .ref a1), (2, .int x2), (3, .int x3), (4, .ref a4)] [.ref a5] w Q := by
  refine r_castY (C := RJ29) (TT := TJ29) (NN := 6) rfl q1472 q1477 23 57 rfl rfl o1 ?_
  refine r_astore (lv' := [(5, .ref a5), (0, .ref a1), (2, .int x2), (3, .int x3), (4, .ref a4)]) 24 59 rfl rfl (Nat.le_of_ble_eq_true rfl) rfl ?_
  refine r_aload_n 25 60 1 rfl rfl rfl ?_
  refine r_aload 26 62 0 rfl rfl rfl ?_
  refine r_callF lkF_X1_139_J29 (C := RJ29) (TT := TJ29) (NN := 6) rfl o1 27 67 rfl rfl (by decide) [] rfl rfl (Nat.le_of_ble_eq_true rfl) (Nat.le_of_ble_eq_true rfl) (e_J29_getValue hS (p6 := p10) (p5 := p9) (p4 := p8) (o1 := o1) (k2 := ?_)) (fun _ _ h => h)
  show Rn G mX1_wrong 67 [(5, .ref a5), (0, .ref a1), (2, .int x2), (3, .int x3), (4, .ref a4)] [.ref a7, .ref a1] w _
  refine r_castS (C := RX7) (TT := TX7) (NN := 3) rfl q1392 28 70 rfl rfl o2 ?_
  exact r_callV lkV_X1_250_X1 (C := RX1) (TT := TX1) (NN := 4) rfl o3 29 73 rfl rfl (by decide) [.ref a7] rfl rfl (Nat.le_of_ble_eq_true rfl) (Nat.le_of_ble_eq_true rfl) e4 (fun r w' h => Af.sub [1, 2, 3, 4, 0] rfl (k4 r w' h))
theorem e_X1_wrong_73 {G : Gm} {κ : Nat → Nat} {φ : Nat → Option Nat} (hS : GS G κ φ) {w : Wd} {Q : Rs → Wd → Prop} {a1 : Nat} {x2 : Int32} {x3 : Int32} {a4 : Nat} {a5 : Nat} {x6 : Int32} {a7 : Nat} {a8 : Nat} {p9 : Option Nat} {p10 : Option Nat} {p11 : Option Nat} {x12 : Int32} {x13 : Int32} (k1 : x6 = 0 → Rn G mX1_wrong 37 [(0, .ref a1), (2, .int x2), (3, .int x3), (4, .ref a4)] [] w Q) (k2 : ¬ x6 = 0 → ¬ x3 = 0 → Rn G mX1_wrong 37 [(0, .ref a1), (2, .int x2), (3, .int (x3 + (-1))), (4, .ref a4)] [] w Q) (k3 : ¬ x6 = 0 → x3 = 0 → ¬ x2 = 0 → ¬ x2 = 1 → ¬ (x6 - x6 / (8 : Int32) * (8 : Int32)) = 3 → Q (.inl (some (.int (-1)))) w) (k4 : ¬ x6 = 0 → x3 = 0 → ¬ x2 = 0 → ¬ x2 = 1 → (x6 - x6 / (8 : Int32) * (8 : Int32)) = 3 → Q (.inl (some (.int (x6 / (8 : Int32))))) w) (k5 : ¬ x6 = 0 → x3 = 0 → ¬ x2 = 0 → x2 = 1 → Q (.inl (some (.int (x6 - x6 / (8 : Int32) * (8 : Int32))))) w) (o6 : Lk G w a5 (.inl (nJ29, [.ref a7, .ref a8, va_rf p9, va_rf p10, va_rf p11, .int x12]))) (o7 : Lk G w a7 (.inl (nJ20, [.int x13]))) (k8 : ¬ x6 = 0 → x3 = 0 → x2 = 0 → Q (.inl (some (.int x13))) w) : Rn G mX1_wrong 73 [(0, .ref a1), (2, .int x2), (3, .int x3), (4, .ref a4), (5, .ref a5)] [.int x6] w Q := by
  refine r_istore (lv' := [(6, .int x6), (0, .ref a1), (2, .int x2), (3, .int x3), (4, .ref a4), (5, .ref a5)]) 30 75 rfl rfl (Nat.le_of_ble_eq_true rfl) rfl ?_
  refine r_iload 31 77 0 rfl rfl rfl ?_
  refine r_if_eq 32 80 139 rfl rfl rfl (fun c1 => ?_) (fun c1 => ?_)
  · refine r_goto 61 37 rfl rfl ?_
    exact r_sub [1, 2, 3, 4] rfl (k1 c1)
  · refine r_iload_n 33 81 3 rfl rfl rfl ?_
    refine r_if_ne 34 84 136 rfl rfl rfl (fun c2 => ?_) (fun c2 => ?_)
    · refine r_iinc (v := (x3 + (-1))) (lv' := [(3, .int (x3 + (-1))), (6, .int x6), (0, .ref a1), (2, .int x2), (4, .ref a4), (5, .ref a5)]) 60 139 3 rfl rfl rfl (congrArg (fun z => x3 + z) di_m1) (Nat.le_of_ble_eq_true rfl) rfl ?_
      refine r_goto 61 37 rfl rfl ?_
      exact r_sub [2, 3, 0, 4] rfl (k2 c1 c2)
    · refine r_iload_n 35 85 2 rfl rfl rfl ?_
      refine r_if_ne 36 88 104 rfl rfl rfl (fun c3 => ?_) (fun c3 => ?_)
      · refine r_iload_n 42 105 2 rfl rfl rfl ?_
        refine r_iconst 43 106 rfl rfl di_1 ?_
        refine r_icmp_ne 44 109 117 rfl rfl rfl (fun c4 => ?_) (fun c4 => ?_)
        · refine r_iload 49 119 0 rfl rfl rfl ?_
          refine r_bipush 50 121 rfl rfl db_8 ?_
          refine r_irem 51 122 rfl rfl (by decide) ?_
          refine r_iconst 52 123 rfl rfl di_3 ?_
          refine r_icmp_ne 53 126 134 rfl rfl rfl (fun c5 => ?_) (fun c5 => ?_)
          · refine r_iconst 58 135 rfl rfl di_m1 ?_
            exact r_iret 59 rfl rfl rfl (k3 c1 c2 c3 c4 c5)
          · refine r_iload 54 128 0 rfl rfl rfl ?_
            refine r_bipush 55 130 rfl rfl db_8 ?_
            refine r_idiv 56 131 rfl rfl (by decide) ?_
            refine r_goto 57 135 rfl rfl ?_
            exact r_iret 59 rfl rfl rfl (k4 c1 c2 c3 c4 c5)
        · refine r_iload 45 111 0 rfl rfl rfl ?_
          refine r_bipush 46 113 rfl rfl db_8 ?_
          refine r_irem 47 114 rfl rfl (by decide) ?_
          refine r_goto 48 135 rfl rfl ?_
          exact r_iret 59 rfl rfl rfl (k5 c1 c2 c3 c4)
      · refine r_aload 37 90 5 rfl rfl rfl ?_
        refine r_callF lkF_X1_175_J29 (C := RJ29) (TT := TJ29) (NN := 6) rfl o6 38 95 rfl rfl (by decide) [] rfl rfl (Nat.le_of_ble_eq_true rfl) (Nat.le_of_ble_eq_true rfl) (e_J29_getKey hS (p6 := p11) (p5 := p10) (p4 := p9) (o1 := o6) (k2 := ?_)) (fun _ _ h => h)
        show Rn G mX1_wrong 95 [(6, .int x6), (0, .ref a1), (2, .int x2), (3, .int x3), (4, .ref a4), (5, .ref a5)] [.ref a7] w _
        refine r_castS (C := RJ20) (TT := TJ20) (NN := 1) rfl q1411 39 98 rfl rfl o7 ?_
        refine r_callV lkV_X1_123_J20 (C := RJ20) (TT := TJ20) (NN := 1) rfl o7 40 101 rfl rfl (by decide) [] rfl rfl (Nat.le_of_ble_eq_true rfl) (Nat.le_of_ble_eq_true rfl) (e_J20_intValue hS (o1 := o7) (k2 := ?_)) (fun _ _ h => h)
        show Rn G mX1_wrong 101 [(6, .int x6), (0, .ref a1), (2, .int x2), (3, .int x3), (4, .ref a4), (5, .ref a5)] [.int x13] w _
        refine r_goto 41 135 rfl rfl ?_
        exact r_iret 59 rfl rfl rfl (k8 c1 c2 c3)
theorem e_X1_from {G : Gm} {κ : Nat → Nat} {φ : Nat → Option Nat} (hS : GS G κ φ) {w : Wd} {Q : Rs → Wd → Prop} {a1 : Nat} {x2 : Int32} {x3 : Int32} {a4 : Nat} {a5 : Nat} {a6 : Nat} {a7 : Nat} (o1 : Lk G w a1 (.inl (nX1, [.ref a4, .ref a5, .ref a6, .ref a7]))) {Q2 : Rs → Wd → Prop} (e2 : Ev G mX1_lineOf [.ref a1, .int x2] w Q2) (k2 : ∀ r w', Q2 r w' → Af G mX1_from 2 5 [(0, .ref a1), (2, .int x3)] [] r w' Q) : Ev G mX1_from [.ref a1, .int x2, .int x3] w Q := by
  show Rn G mX1_from 0 [(0, .ref a1), (1, .int x2), (2, .int x3)] [] w Q
  refine r_aload_n 0 1 0 rfl rfl rfl ?_
  refine r_iload_n 1 2 1 rfl rfl rfl ?_
  exact r_callV lkV_X1_166_X1 (C := RX1) (TT := TX1) (NN := 4) rfl o1 2 5 rfl rfl (by decide) [.int x2] rfl rfl (Nat.le_of_ble_eq_true rfl) (Nat.le_of_ble_eq_true rfl) e2 (fun r w' h => Af.sub [0, 2] rfl (k2 r w' h))
theorem e_X1_from_5 {G : Gm} {κ : Nat → Nat} {φ : Nat → Option Nat} (hS : GS G κ φ) {w : Wd} {Q : Rs → Wd → Prop} {a1 : Nat} {x2 : Int32} {a3 : Nat} {a4 : Nat} {a5 : Nat} {a6 : Nat} {a7 : Nat} {p8 : Option Nat} {p9 : Option Nat} {p10 : Option Nat} {m11 : Nat} {x12 : Int32} {p13 : Option Nat} {p14 : Option Nat} {p15 : Option Nat} (hg : 18 ≤ w.2.2) (k1 : x2 < 0 → Q (.inr w.2.1) (wnew w (.inl (nJ12, [.null])) 6)) (o2 : Lk G w a1 (.inl (nX1, [.ref a4, .ref a5, .ref a6, .ref a7]))) (o3 : Lk G w a6 (.inl (nJ8, [va_rf p8, va_rf p9, .null, va_rf p10, .int (nI m11), .int x12, va_rf p13, va_rf p14, va_rf p15]))) {Q4 : Rs → Wd → Prop} (e4 : ¬ x2 < 0 → Ev G mJ8_entrySet [.ref a6] w Q4) (k4 : ¬ x2 < 0 → ∀ r w', Q4 r w' → Af G mX1_from 25 28 [(3, .ref a3), (4, .int x2)] [] r w' Q) : Rn G mX1_from 5 [(0, .ref a1), (2, .int x2)] [.ref a3] w Q := by
  refine r_astore_n (lv' := [(3, .ref a3), (0, .ref a1), (2, .int x2)]) 3 6 rfl rfl (Nat.le_of_ble_eq_true rfl) rfl ?_
  refine r_iload_n 4 7 2 rfl rfl rfl ?_
  refine r_if_lt 5 10 14 rfl rfl rfl (fun c1 => ?_) (fun c1 => ?_)
  · refine r_iconst 8 15 rfl rfl di_0 ?_
    refine r_callS lkS_X1_38 9 18 rfl rfl (by decide) [.int 0] rfl rfl (Nat.le_of_ble_eq_true rfl) (Nat.le_of_ble_eq_true rfl) (e_X1_need hS (hg := by show 18 ≤ w.2.2; omega) (k1 := fun z0 => absurd z0 (by decide)) (k2 := fun z1_0 => ?_)) (fun _ _ h => h)
    show Th G mX1_from 15 [(3, .ref a3), (0, .ref a1), (2, .int x2)] [] w.2.1 (wnew w (.inl (nJ12, [.null])) 6) _
    exact th_out rfl (k1 c1)
  · refine r_iconst 6 11 rfl rfl di_1 ?_
    refine r_goto 7 15 rfl rfl ?_
    refine r_callS lkS_X1_38 9 18 rfl rfl (by decide) [.int 1] rfl rfl (Nat.le_of_ble_eq_true rfl) (Nat.le_of_ble_eq_true rfl) (e_X1_need hS (hg := by show 18 ≤ w.2.2; omega) (k2 := fun z0 => absurd z0 (by decide)) (k1 := fun z1_0 => ?_)) (fun _ _ h => h)
    show Rn G mX1_from 18 [(3, .ref a3), (0, .ref a1), (2, .int x2)] [] w _
    refine r_iload_n 10 19 2 rfl rfl rfl ?_
    refine r_istore (lv' := [(4, .int x2), (3, .ref a3), (0, .ref a1), (2, .int x2)]) 11 21 rfl rfl (Nat.le_of_ble_eq_true rfl) rfl ?_
    refine r_aload_n 12 22 2 rfl rfl rfl ?_
    refine r_get (v := .ref a6) fl_X1_26_X1 13 25 rfl rfl o2 rfl ?_
    exact r_callV lkV_X1_130_J8 (C := RJ8) (TT := TJ8) (NN := 9) rfl o3 14 28 rfl rfl (by decide) [] rfl rfl (Nat.le_of_ble_eq_true rfl) (Nat.le_of_ble_eq_true rfl) (e4 c1) (fun r w' h => Af.sub [1, 0] rfl ((k4 c1) r w' h))
theorem e_X1_from_28 {G : Gm} {κ : Nat → Nat} {φ : Nat → Option Nat} (hS : GS G κ φ) {w : Wd} {Q : Rs → Wd → Prop} {a1 : Nat} {x2 : Int32} {a3 : Nat} {a4 : Nat} (o1 : Lk G w a3 (.inl (nJ31, [.ref a4]))) {Q2 : Rs → Wd → Prop} (e2 : Ev G mJ31_iterator [.ref a3] w Q2) (k2 : ∀ r w', Q2 r w' → Af G mX1_from 28 33 [(3, .ref a1), (4, .int x2)] [] r w' Q) : Rn G mX1_from 28 [(3, .ref a1), (4, .int x2)] [.ref a3] w Q := by
  exact r_callF lkF_X1_134_J31 (C := RJ31) (TT := TJ31) (NN := 1) rfl o1 15 33 rfl rfl (by decide) [] rfl rfl (Nat.le_of_ble_eq_true rfl) (Nat.le_of_ble_eq_true rfl) e2 (fun r w' h => Af.sub [0, 1] rfl (k2 r w' h))
theorem e_X1_from_33 {G : Gm} {κ : Nat → Nat} {φ : Nat → Option Nat} (hS : GS G κ φ) {w : Wd} {Q : Rs → Wd → Prop} {a1 : Nat} {x2 : Int32} {a3 : Nat} (k1 : Rn G mX1_from 35 [(3, .ref a1), (4, .int x2), (5, .ref a3)] [] w Q) : Rn G mX1_from 33 [(3, .ref a1), (4, .int x2)] [.ref a3] w Q := by
  refine r_astore (lv' := [(5, .ref a3), (3, .ref a1), (4, .int x2)]) 16 35 rfl rfl (Nat.le_of_ble_eq_true rfl) rfl ?_
  exact r_sub [1, 2, 0] rfl k1
theorem e_X1_from_35 {G : Gm} {κ : Nat → Nat} {φ : Nat → Option Nat} (hS : GS G κ φ) {w : Wd} {Q : Rs → Wd → Prop} {a1 : Nat} {x2 : Int32} {a3 : Nat} {p4 : Option Nat} {p5 : Option Nat} {x6 : Int32} {a7 : Nat} (o1 : Lk G w a3 (.inl (nJ33, [va_rf p4, va_rf p5, .int x6, .ref a7]))) {Q2 : Rs → Wd → Prop} (e2 : Ev G mJ32_hasNext [.ref a3] w Q2) (k2 : ∀ r w', Q2 r w' → Af G mX1_from 37 42 [(3, .ref a1), (4, .int x2), (5, .ref a3)] [] r w' Q) : Rn G mX1_from 35 [(3, .ref a1), (4, .int x2), (5, .ref a3)] [] w Q := by
  refine r_aload 17 37 2 rfl rfl rfl ?_
  exact r_callF lkF_X1_110_J33 (C := RJ33) (TT := TJ33) (NN := 4) rfl o1 18 42 rfl rfl (by decide) [] rfl rfl (Nat.le_of_ble_eq_true rfl) (Nat.le_of_ble_eq_true rfl) e2 (fun r w' h => Af.sub [0, 1, 2] rfl (k2 r w' h))
theorem e_X1_from_42 {G : Gm} {κ : Nat → Nat} {φ : Nat → Option Nat} (hS : GS G κ φ) {w : Wd} {Q : Rs → Wd → Prop} {a1 : Nat} {x2 : Int32} {a3 : Nat} {x4 : Int32} {p5 : Option Nat} {p6 : Option Nat} {x7 : Int32} {a8 : Nat} (k1 : x4 = 0 → Q (.inl (some (.int (-1)))) w) (o2 : Lk G w a3 (.inl (nJ33, [va_rf p5, va_rf p6, .int x7, .ref a8]))) {Q3 : Rs → Wd → Prop} (e3 : ¬ x4 = 0 → Ev G mJ33_next [.ref a3] w Q3) (k3 : ¬ x4 = 0 → ∀ r w', Q3 r w' → Af G mX1_from 47 52 [(3, .ref a1), (4, .int x2), (5, .ref a3)] [] r w' Q) : Rn G mX1_from 42 [(3, .ref a1), (4, .int x2), (5, .ref a3)] [.int x4] w Q := by
  refine r_if_eq 19 45 102 rfl rfl rfl (fun c1 => ?_) (fun c1 => ?_)
  · refine r_iconst 40 103 rfl rfl di_m1 ?_
    exact r_iret 41 rfl rfl rfl (k1 c1)
  · refine r_aload 20 47 2 rfl rfl rfl ?_
    exact r_callF lkF_X1_115_J33 (C := RJ33) (TT := TJ33) (NN := 4) rfl o2 21 52 rfl rfl (by decide) [] rfl rfl (Nat.le_of_ble_eq_true rfl) (Nat.le_of_ble_eq_true rfl) (e3 c1) (fun r w' h => Af.sub [0, 1, 2] rfl ((k3 c1) r w' h))
theorem e_X1_from_52 {G : Gm} {κ : Nat → Nat} {φ : Nat → Option Nat} (hS : GS G κ φ) {w : Wd} {Q : Rs → Wd → Prop} {a1 : Nat} {x2 : Int32} {a3 : Nat} {a4 : Nat} {a5 : Nat} {a6 : Nat} {p7 : Option Nat} {p8 : Option Nat} {p9 : Option Nat} {x10 : Int32} {m11 : Nat} {a12 : Nat} {a13 : Nat} {m14 : Nat} {a15 : Nat} {a16 : Nat} (o1 : Lk G w a4 (.inl (nJ29, [.ref a5, .ref a6, va_rf p7, va_rf p8, va_rf p9, .int x10]))) (o2 : Lk G w a6 (.inl (nX7, [.int (nI m11), .ref a12, .ref a13]))) (o3 : Lk G w a1 (.inl (nX7, [.int (nI m14), .ref a15, .ref a16]))) {Q4 : Rs → Wd → Prop} (e4 : Ev G mX7_refersTo [.ref a6, .int (nI m14)] w Q4) (k4 : ∀ r w', Q4 r w' → Af G mX1_from 71 74 [(3, .ref a1), (4, .int x2), (5, .ref a3), (6, .ref a4)] [] r w' Q) : Rn G mX1_from 52 [(3, .ref a1), (4, .int x2), (5, .ref a3)] [.ref a4] w Q := by
  refine r_castY (C := RJ29) (TT := TJ29) (NN := 6) rfl q1472 q1477 22 55 rfl rfl o1 ?_
  refine r_astore (lv' := [(6, .ref a4), (3, .ref a1), (4, .int x2), (5, .ref a3)]) 23 57 rfl rfl (Nat.le_of_ble_eq_true rfl) rfl ?_
  refine r_aload 24 59 0 rfl rfl rfl ?_
  refine r_callF lkF_X1_139_J29 (C := RJ29) (TT := TJ29) (NN := 6) rfl o1 25 64 rfl rfl (by decide) [] rfl rfl (Nat.le_of_ble_eq_true rfl) (Nat.le_of_ble_eq_true rfl) (e_J29_getValue hS (p6 := p9) (p5 := p8) (p4 := p7) (o1 := o1) (k2 := ?_)) (fun _ _ h => h)
  show Rn G mX1_from 64 [(6, .ref a4), (3, .ref a1), (4, .int x2), (5, .ref a3)] [.ref a6] w _
  refine r_castS (C := RX7) (TT := TX7) (NN := 3) rfl q1392 26 67 rfl rfl o2 ?_
  refine r_aload_n 27 68 1 rfl rfl rfl ?_
  refine r_get (v := .int (nI m14)) fl_X1_91_X7 28 71 rfl rfl o3 rfl ?_
  exact r_callV lkV_X1_253_X7 (C := RX7) (TT := TX7) (NN := 3) rfl o2 29 74 rfl rfl (by decide) [.int (nI m14)] rfl rfl (Nat.le_of_ble_eq_true rfl) (Nat.le_of_ble_eq_true rfl) e4 (fun r w' h => Af.sub [1, 2, 3, 0] rfl (k4 r w' h))
theorem e_X1_from_74 {G : Gm} {κ : Nat → Nat} {φ : Nat → Option Nat} (hS : GS G κ φ) {w : Wd} {Q : Rs → Wd → Prop} {a1 : Nat} {x2 : Int32} {a3 : Nat} {a4 : Nat} {x5 : Int32} {a6 : Nat} {a7 : Nat} {p8 : Option Nat} {p9 : Option Nat} {p10 : Option Nat} {x11 : Int32} {x12 : Int32} (k1 : x5 = 0 → Rn G mX1_from 35 [(3, .ref a1), (4, .int x2), (5, .ref a3)] [] w Q) (k2 : ¬ x5 = 0 → ¬ x2 = 0 → Rn G mX1_from 35 [(3, .ref a1), (4, .int (x2 + (-1))), (5, .ref a3)] [] w Q) (o3 : Lk G w a4 (.inl (nJ29, [.ref a6, .ref a7, va_rf p8, va_rf p9, va_rf p10, .int x11]))) (o4 : Lk G w a6 (.inl (nJ20, [.int x12]))) (k5 : ¬ x5 = 0 → x2 = 0 → Q (.inl (some (.int x12))) w) : Rn G mX1_from 74 [(3, .ref a1), (4, .int x2), (5, .ref a3), (6, .ref a4)] [.int x5] w Q := by
  refine r_if_eq 30 77 99 rfl rfl rfl (fun c1 => ?_) (fun c1 => ?_)
  · refine r_goto 39 35 rfl rfl ?_
    exact r_sub [0, 1, 2] rfl (k1 c1)
  · refine r_iload 31 79 1 rfl rfl rfl ?_
    refine r_if_ne 32 82 96 rfl rfl rfl (fun c2 => ?_) (fun c2 => ?_)
    · refine r_iinc (v := (x2 + (-1))) (lv' := [(4, .int (x2 + (-1))), (3, .ref a1), (5, .ref a3), (6, .ref a4)]) 38 99 1 rfl rfl rfl (congrArg (fun z => x2 + z) di_m1) (Nat.le_of_ble_eq_true rfl) rfl ?_
      refine r_goto 39 35 rfl rfl ?_
      exact r_sub [1, 0, 2] rfl (k2 c1 c2)
    · refine r_aload 33 84 3 rfl rfl rfl ?_
      refine r_callF lkF_X1_175_J29 (C := RJ29) (TT := TJ29) (NN := 6) rfl o3 34 89 rfl rfl (by decide) [] rfl rfl (Nat.le_of_ble_eq_true rfl) (Nat.le_of_ble_eq_true rfl) (e_J29_getKey hS (p6 := p10) (p5 := p9) (p4 := p8) (o1 := o3) (k2 := ?_)) (fun _ _ h => h)
      show Rn G mX1_from 89 [(3, .ref a1), (4, .int x2), (5, .ref a3), (6, .ref a4)] [.ref a6] w _
      refine r_castS (C := RJ20) (TT := TJ20) (NN := 1) rfl q1411 35 92 rfl rfl o4 ?_
      refine r_callV lkV_X1_123_J20 (C := RJ20) (TT := TJ20) (NN := 1) rfl o4 36 95 rfl rfl (by decide) [] rfl rfl (Nat.le_of_ble_eq_true rfl) (Nat.le_of_ble_eq_true rfl) (e_J20_intValue hS (o1 := o4) (k2 := ?_)) (fun _ _ h => h)
      show Rn G mX1_from 95 [(3, .ref a1), (4, .int x2), (5, .ref a3), (6, .ref a4)] [.int x12] w _
      exact r_iret 37 rfl rfl rfl (k5 c1 c2)
theorem e_X1_table {G : Gm} {κ : Nat → Nat} {φ : Nat → Option Nat} (hS : GS G κ φ) {w : Wd} {Q : Rs → Wd → Prop} {a1 : Nat} {a2 : Nat} {a3 : Nat} {a4 : Nat} {a5 : Nat} {p6 : Option Nat} {p7 : Option Nat} {p8 : Option Nat} {m9 : Nat} {x10 : Int32} {p11 : Option Nat} {p12 : Option Nat} {p13 : Option Nat} (hg : 1012 ≤ w.2.2) (o1 : Lk G w a1 (.inl (nX1, [.ref a2, .ref a3, .ref a4, .ref a5]))) (o2 : Lk G w a4 (.inl (nJ8, [va_rf p6, va_rf p7, .null, va_rf p8, .int (nI m9), .int x10, va_rf p11, va_rf p12, va_rf p13]))) {Q3 : Rs → Wd → Prop} (e3 : Ev G mJ8_entrySet [.ref a4] (wnew w (arR "ExchangeText$Line" 1000 (fun _ => none)) 1000) Q3) (k3 : ∀ r w', Q3 r w' → Af G mX1_table 11 14 [(1, .ref w.2.1)] [] r w' Q) : Ev G mX1_table [.ref a1] w Q := by
  show Rn G mX1_table 0 [(0, .ref a1)] [] w Q
  refine Rn.wok fun hwk => ?_
  refine r_sipush 0 3 rfl rfl ds_1000 ?_
  refine y_newR (n := 1000) 1 6 rfl rfl q1392 q1880 (by decide) (by decide) (by show 12 + 1000 ≤ w.2.2; omega) ?_
  show Rn G mX1_table 6 [(0, .ref a1)] [.ref w.2.1] (wnew w (arR "ExchangeText$Line" 1000 (fun _ => none)) 1000) _
  refine r_astore_n (lv' := [(1, .ref w.2.1), (0, .ref a1)]) 2 7 rfl rfl (Nat.le_of_ble_eq_true rfl) rfl ?_
  refine r_aload_n 3 8 1 rfl rfl rfl ?_
  refine r_get (v := .ref a4) fl_X1_26_X1 4 11 rfl rfl (Lk.new_n o1 (by have := (o1.lt hwk); show a1 < w.2.1; omega)) rfl ?_
  exact r_callV lkV_X1_130_J8 (C := RJ8) (TT := TJ8) (NN := 9) rfl (Lk.new_n o2 (by have := (o2.lt hwk); show a4 < w.2.1; omega)) 5 14 rfl rfl (by decide) [] rfl rfl (Nat.le_of_ble_eq_true rfl) (Nat.le_of_ble_eq_true rfl) e3 (fun r w' h => Af.sub [0] rfl (k3 r w' h))
theorem e_X1_table_14 {G : Gm} {κ : Nat → Nat} {φ : Nat → Option Nat} (hS : GS G κ φ) {w : Wd} {Q : Rs → Wd → Prop} {a1 : Nat} {a2 : Nat} {a3 : Nat} (o1 : Lk G w a2 (.inl (nJ31, [.ref a3]))) {Q2 : Rs → Wd → Prop} (e2 : Ev G mJ31_iterator [.ref a2] w Q2) (k2 : ∀ r w', Q2 r w' → Af G mX1_table 14 19 [(1, .ref a1)] [] r w' Q) : Rn G mX1_table 14 [(1, .ref a1)] [.ref a2] w Q := by
  exact r_callF lkF_X1_134_J31 (C := RJ31) (TT := TJ31) (NN := 1) rfl o1 6 19 rfl rfl (by decide) [] rfl rfl (Nat.le_of_ble_eq_true rfl) (Nat.le_of_ble_eq_true rfl) e2 (fun r w' h => Af.sub [0] rfl (k2 r w' h))
theorem e_X1_table_19 {G : Gm} {κ : Nat → Nat} {φ : Nat → Option Nat} (hS : GS G κ φ) {w : Wd} {Q : Rs → Wd → Prop} {a1 : Nat} {a2 : Nat} (k1 : Rn G mX1_table 20 [(1, .ref a1), (2, .ref a2)] [] w Q) : Rn G mX1_table 19 [(1, .ref a1)] [.ref a2] w Q := by
  refine r_astore_n (lv' := [(2, .ref a2), (1, .ref a1)]) 7 20 rfl rfl (Nat.le_of_ble_eq_true rfl) rfl ?_
  exact r_sub [1, 0] rfl k1
theorem e_X1_table_20 {G : Gm} {κ : Nat → Nat} {φ : Nat → Option Nat} (hS : GS G κ φ) {w : Wd} {Q : Rs → Wd → Prop} {a1 : Nat} {a2 : Nat} {p3 : Option Nat} {p4 : Option Nat} {x5 : Int32} {a6 : Nat} (o1 : Lk G w a2 (.inl (nJ33, [va_rf p3, va_rf p4, .int x5, .ref a6]))) {Q2 : Rs → Wd → Prop} (e2 : Ev G mJ32_hasNext [.ref a2] w Q2) (k2 : ∀ r w', Q2 r w' → Af G mX1_table 21 26 [(1, .ref a1), (2, .ref a2)] [] r w' Q) : Rn G mX1_table 20 [(1, .ref a1), (2, .ref a2)] [] w Q := by
  refine r_aload_n 8 21 1 rfl rfl rfl ?_
  exact r_callF lkF_X1_110_J33 (C := RJ33) (TT := TJ33) (NN := 4) rfl o1 9 26 rfl rfl (by decide) [] rfl rfl (Nat.le_of_ble_eq_true rfl) (Nat.le_of_ble_eq_true rfl) e2 (fun r w' h => Af.sub [0, 1] rfl (k2 r w' h))
theorem e_X1_table_26 {G : Gm} {κ : Nat → Nat} {φ : Nat → Option Nat} (hS : GS G κ φ) {w : Wd} {Q : Rs → Wd → Prop} {a1 : Nat} {a2 : Nat} {x3 : Int32} {p4 : Option Nat} {p5 : Option Nat} {x6 : Int32} {a7 : Nat} (k1 : x3 = 0 → Q (.inl (some (.ref a1))) w) (o2 : Lk G w a2 (.inl (nJ33, [va_rf p4, va_rf p5, .int x6, .ref a7]))) {Q3 : Rs → Wd → Prop} (e3 : ¬ x3 = 0 → Ev G mJ33_next [.ref a2] w Q3) (k3 : ¬ x3 = 0 → ∀ r w', Q3 r w' → Af G mX1_table 30 35 [(1, .ref a1), (2, .ref a2)] [] r w' Q) : Rn G mX1_table 26 [(1, .ref a1), (2, .ref a2)] [.int x3] w Q := by
  refine r_if_eq 10 29 65 rfl rfl rfl (fun c1 => ?_) (fun c1 => ?_)
  · refine r_aload_n 25 66 0 rfl rfl rfl ?_
    exact r_aret 26 rfl rfl (Or.inr ⟨_, rfl⟩) (Or.inr ⟨_, rfl⟩) (k1 c1)
  · refine r_aload_n 11 30 1 rfl rfl rfl ?_
    exact r_callF lkF_X1_115_J33 (C := RJ33) (TT := TJ33) (NN := 4) rfl o2 12 35 rfl rfl (by decide) [] rfl rfl (Nat.le_of_ble_eq_true rfl) (Nat.le_of_ble_eq_true rfl) (e3 c1) (fun r w' h => Af.sub [0, 1] rfl ((k3 c1) r w' h))
theorem e_X1_table_35 {G : Gm} {κ : Nat → Nat} {φ : Nat → Option Nat} (hS : GS G κ φ) {w : Wd} {Q : Rs → Wd → Prop} {a1 : Nat} {a2 : Nat} {a3 : Nat} {a4 : Nat} {a5 : Nat} {p6 : Option Nat} {p7 : Option Nat} {p8 : Option Nat} {x9 : Int32} {m10 : Nat} {a11 : Nat} {a12 : Nat} {n13 : Nat} {g14 : Nat → Option Nat} (o1 : Lk G w a3 (.inl (nJ29, [.ref a4, .ref a5, va_rf p6, va_rf p7, va_rf p8, .int x9]))) (o2 : Lk G w a5 (.inl (nX7, [.int (nI m10), .ref a11, .ref a12]))) (o3 : w.1 a1 = some (arR "java/lang/Object" n13 g14)) (b4 : m10 < n13) (bd5 : n13 < 2 ^ 31) (q6 : OkO G w (.ref a5)) (k7 : Rn G mX1_table 20 [(1, .ref a1), (2, .ref a2)] [] (wset w a1 (arR "java/lang/Object" n13 (upF g14 m10 (some a5)))) Q) : Rn G mX1_table 35 [(1, .ref a1), (2, .ref a2)] [.ref a3] w Q := by
  refine r_castY (C := RJ29) (TT := TJ29) (NN := 6) rfl q1472 q1477 13 38 rfl rfl o1 ?_
  refine r_astore_n (lv' := [(3, .ref a3), (1, .ref a1), (2, .ref a2)]) 14 39 rfl rfl (Nat.le_of_ble_eq_true rfl) rfl ?_
  refine r_aload_n 15 40 1 rfl rfl rfl ?_
  refine r_aload_n 16 41 0 rfl rfl rfl ?_
  refine r_callF lkF_X1_139_J29 (C := RJ29) (TT := TJ29) (NN := 6) rfl o1 17 46 rfl rfl (by decide) [] rfl rfl (Nat.le_of_ble_eq_true rfl) (Nat.le_of_ble_eq_true rfl) (e_J29_getValue hS (p6 := p8) (p5 := p7) (p4 := p6) (o1 := o1) (k2 := ?_)) (fun _ _ h => h)
  show Rn G mX1_table 46 [(3, .ref a3), (1, .ref a1), (2, .ref a2)] [.ref a5, .ref a1] w _
  refine r_castS (C := RX7) (TT := TX7) (NN := 3) rfl q1392 18 49 rfl rfl o2 ?_
  refine r_get (v := .int (nI m10)) fl_X1_91_X7 19 52 rfl rfl o2 rfl ?_
  refine r_aload_n 20 53 0 rfl rfl rfl ?_
  refine r_callF lkF_X1_139_J29 (C := RJ29) (TT := TJ29) (NN := 6) rfl o1 21 58 rfl rfl (by decide) [] rfl rfl (Nat.le_of_ble_eq_true rfl) (Nat.le_of_ble_eq_true rfl) (e_J29_getValue hS (p6 := p8) (p5 := p7) (p4 := p6) (o1 := o1) (k2 := ?_)) (fun _ _ h => h)
  show Rn G mX1_table 58 [(3, .ref a3), (1, .ref a1), (2, .ref a2)] [.ref a5, .int (nI m10), .ref a1] w _
  refine r_castS (C := RX7) (TT := TX7) (NN := 3) rfl q1392 22 61 rfl rfl o2 ?_
  refine y_aastO (i := m10) 23 62 rfl rfl o3 q6 b4 bd5 ?_
  show Rn G mX1_table 62 [(3, .ref a3), (1, .ref a1), (2, .ref a2)] [] (wset w a1 (arR "java/lang/Object" n13 (upF g14 m10 (some a5)))) _
  refine r_goto 24 20 rfl rfl ?_
  exact r_sub [1, 2] rfl k7
theorem e_X1_isOnRing {G : Gm} {κ : Nat → Nat} {φ : Nat → Option Nat} (hS : GS G κ φ) {w : Wd} {Q : Rs → Wd → Prop} {a1 : Nat} {a2 : Nat} {a3 : Nat} {a4 : Nat} {a5 : Nat} {m6 : Nat} (o1 : Lk G w a3 (.inl (nJ21, [.ref a5, .int (nI m6), .int 0]))) {Q2 : Rs → Wd → Prop} (e2 : Ev G mJ21_clear [.ref a3] w Q2) (k2 : ∀ r w', Q2 r w' → Af G mX1_isOnRing 1 4 [(0, .ref a1), (1, .ref a2), (2, .ref a3), (3, .ref a4)] [] r w' Q) : Ev G mX1_isOnRing [.ref a1, .ref a2, .ref a3, .ref a4] w Q := by
  show Rn G mX1_isOnRing 0 [(0, .ref a1), (1, .ref a2), (2, .ref a3), (3, .ref a4)] [] w Q
  refine r_aload_n 0 1 2 rfl rfl rfl ?_
  exact r_callV lkV_X1_257_J21 (C := RJ21) (TT := TJ21) (NN := 3) rfl o1 1 4 rfl rfl (by decide) [] rfl rfl (Nat.le_of_ble_eq_true rfl) (Nat.le_of_ble_eq_true rfl) e2 (fun r w' h => Af.sub [0, 1, 2, 3] rfl (k2 r w' h))
theorem e_X1_isOnRing_4 {G : Gm} {κ : Nat → Nat} {φ : Nat → Option Nat} (hS : GS G κ φ) {w : Wd} {Q : Rs → Wd → Prop} {a1 : Nat} {a2 : Nat} {a3 : Nat} {a4 : Nat} {m5 : Nat} {a6 : Nat} {a7 : Nat} {n8 : Nat} {g9 : Nat → Int32} (o1 : Lk G w a1 (.inl (nX7, [.int (nI m5), .ref a6, .ref a7]))) (o2 : w.1 a4 = some (arI .int n8 g9)) (b3 : 0 < n8) (bd4 : n8 < 2 ^ 31) (k5 : Rn G mX1_isOnRing 17 [(0, .ref a1), (1, .ref a2), (2, .ref a3), (3, .ref a4), (4, .int 1), (5, .int 0)] [] (wset w a4 (arI .int n8 (upF g9 0 (nI m5)))) Q) : Rn G mX1_isOnRing 4 [(0, .ref a1), (1, .ref a2), (2, .ref a3), (3, .ref a4)] [] w Q := by
  refine r_aload_n 2 5 3 rfl rfl rfl ?_
  refine r_iconst 3 6 rfl rfl di_0 ?_
  refine r_aload_n 4 7 0 rfl rfl rfl ?_
  refine r_get (v := .int (nI m5)) fl_X1_91_X7 5 10 rfl rfl o1 rfl ?_
  refine y_iast (i := 0) 6 11 rfl rfl o2 b3 bd4 ?_
  show Rn G mX1_isOnRing 11 [(0, .ref a1), (1, .ref a2), (2, .ref a3), (3, .ref a4)] [] (wset w a4 (arI .int n8 (upF g9 0 (nI m5)))) _
  refine r_iconst 7 12 rfl rfl di_1 ?_
  refine r_istore (lv' := [(4, .int 1), (0, .ref a1), (1, .ref a2), (2, .ref a3), (3, .ref a4)]) 8 14 rfl rfl (Nat.le_of_ble_eq_true rfl) rfl ?_
  refine r_iconst 9 15 rfl rfl di_0 ?_
  refine r_istore (lv' := [(5, .int 0), (4, .int 1), (0, .ref a1), (1, .ref a2), (2, .ref a3), (3, .ref a4)]) 10 17 rfl rfl (Nat.le_of_ble_eq_true rfl) rfl ?_
  exact r_sub [2, 3, 4, 5, 1, 0] rfl k5
theorem e_X1_isOnRing_17 {G : Gm} {κ : Nat → Nat} {φ : Nat → Option Nat} (hS : GS G κ φ) {w : Wd} {Q : Rs → Wd → Prop} {a1 : Nat} {a2 : Nat} {a3 : Nat} {a4 : Nat} {m5 : Nat} {m6 : Nat} {m7 : Nat} {a8 : Nat} {a9 : Nat} {a10 : Nat} {m11 : Nat} {n12 : Nat} {g13 : Nat → Int32} {m14 : Nat} {n15 : Nat} {g16 : Nat → Option Nat} {a17 : Nat} {m18 : Nat} {a19 : Nat} {a20 : Nat} {x21 : Int32} {a22 : Nat} {m23 : Nat} (bd1 : m6 < 2 ^ 31) (bd2 : m5 < 2 ^ 31) (o3 : Lk G w a1 (.inl (nX7, [.int (nI m7), .ref a8, .ref a9]))) (o4 : Lk G w a3 (.inl (nJ21, [.ref a10, .int (nI m11), .int 0]))) {Q5 : Rs → Wd → Prop} (e5 : m5 ≤ m6 → Ev G mJ21_get [.ref a3, .int (nI m7)] w Q5) (k5 : m5 ≤ m6 → ∀ r w', Q5 r w' → Af G mX1_isOnRing 144 147 [] [] r w' Q) (o6 : Lk G w a4 (arI .int n12 g13)) (b7 : ¬ m5 ≤ m6 → m6 < n12) (bd8 : n12 < 2 ^ 31) (q9 : ¬ m5 ≤ m6 → (g13 m6) = nI m14) (o10 : Lk G w a2 (arR "java/lang/Object" n15 g16)) (b11 : ¬ m5 ≤ m6 → m14 < n15) (bd12 : n15 < 2 ^ 31) (q13 : ¬ m5 ≤ m6 → (g16 m14) = some a17) (o14 : Lk G w a17 (.inl (nX7, [.int (nI m18), .ref a19, .ref a20]))) (o15 : Lk G w a20 (.inl (nJ6, [.int x21, .ref a22, .int (nI m23)]))) {Q16 : Rs → Wd → Prop} (e16 : ¬ m5 ≤ m6 → Ev G mJ6_iterator [.ref a20] w Q16) (k16 : ¬ m5 ≤ m6 → ∀ r w', Q16 r w' → Af G mX1_isOnRing 33 36 [(0, .ref a1), (1, .ref a2), (2, .ref a3), (3, .ref a4), (4, .int (nI m5)), (5, .int (nI m6))] [] r w' Q) : Rn G mX1_isOnRing 17 [(0, .ref a1), (1, .ref a2), (2, .ref a3), (3, .ref a4), (4, .int (nI m5)), (5, .int (nI m6))] [] w Q := by
  refine r_iload 11 19 5 rfl rfl rfl ?_
  refine r_iload 12 21 4 rfl rfl rfl ?_
  refine y_icmp_ge (a := m6) (b := m5) bd1 bd2 13 24 139 rfl rfl rfl (fun c1 => ?_) (fun c1 => ?_)
  · refine r_aload_n 65 140 2 rfl rfl rfl ?_
    refine r_aload_n 66 141 0 rfl rfl rfl ?_
    refine r_get (v := .int (nI m7)) fl_X1_91_X7 67 144 rfl rfl o3 rfl ?_
    exact r_callV lkV_X1_262_J21 (C := RJ21) (TT := TJ21) (NN := 3) rfl o4 68 147 rfl rfl (by decide) [.int (nI m7)] rfl rfl (Nat.le_of_ble_eq_true rfl) (Nat.le_of_ble_eq_true rfl) (e5 c1) (fun r w' h => Af.sub [] rfl ((k5 c1) r w' h))
  · refine r_aload_n 14 25 1 rfl rfl rfl ?_
    refine r_aload_n 15 26 3 rfl rfl rfl ?_
    refine r_iload 16 28 5 rfl rfl rfl ?_
    refine y_iald (i := m6) 17 29 rfl rfl o6 (b7 c1) bd8 ?_
    refine x_eq (q9 c1) ?_
    refine y_aald (i := m14) 18 30 rfl rfl o10 (b11 c1) bd12 (q13 c1) ?_
    show Rn G mX1_isOnRing 30 [(0, .ref a1), (1, .ref a2), (2, .ref a3), (3, .ref a4), (4, .int (nI m5)), (5, .int (nI m6))] [.ref a17] w _
    refine r_get (v := .ref a20) fl_X1_155_X7 19 33 rfl rfl o14 rfl ?_
    exact r_callV lkV_X1_106_J6 (C := RJ6) (TT := TJ6) (NN := 3) rfl o15 20 36 rfl rfl (by decide) [] rfl rfl (Nat.le_of_ble_eq_true rfl) (Nat.le_of_ble_eq_true rfl) (e16 c1) (fun r w' h => Af.sub [0, 1, 2, 3, 4, 5] rfl ((k16 c1) r w' h))
theorem e_X1_isOnRing_147 {G : Gm} {κ : Nat → Nat} {φ : Nat → Option Nat} (hS : GS G κ φ) {w : Wd} {Q : Rs → Wd → Prop} {x1 : Int32} (q1 : narrow .boolean (.int x1) = .int x1) (k2 : Q (.inl (some (.int x1))) w) : Rn G mX1_isOnRing 147 [] [.int x1] w Q := by
  exact r_iret 69 rfl rfl q1 k2
theorem e_X1_isOnRing_36 {G : Gm} {κ : Nat → Nat} {φ : Nat → Option Nat} (hS : GS G κ φ) {w : Wd} {Q : Rs → Wd → Prop} {a1 : Nat} {a2 : Nat} {a3 : Nat} {a4 : Nat} {m5 : Nat} {m6 : Nat} {a7 : Nat} (k1 : Rn G mX1_isOnRing 38 [(0, .ref a1), (1, .ref a2), (2, .ref a3), (3, .ref a4), (4, .int (nI m5)), (5, .int (nI m6)), (6, .ref a7)] [] w Q) : Rn G mX1_isOnRing 36 [(0, .ref a1), (1, .ref a2), (2, .ref a3), (3, .ref a4), (4, .int (nI m5)), (5, .int (nI m6))] [.ref a7] w Q := by
  refine r_astore (lv' := [(6, .ref a7), (0, .ref a1), (1, .ref a2), (2, .ref a3), (3, .ref a4), (4, .int (nI m5)), (5, .int (nI m6))]) 21 38 rfl rfl (Nat.le_of_ble_eq_true rfl) rfl ?_
  exact r_sub [1, 2, 3, 4, 5, 6, 0] rfl k1
theorem e_X1_isOnRing_38 {G : Gm} {κ : Nat → Nat} {φ : Nat → Option Nat} (hS : GS G κ φ) {w : Wd} {Q : Rs → Wd → Prop} {a1 : Nat} {a2 : Nat} {a3 : Nat} {a4 : Nat} {m5 : Nat} {m6 : Nat} {a7 : Nat} {m8 : Nat} {x9 : Int32} {x10 : Int32} {a11 : Nat} (o1 : Lk G w a7 (.inl (nJ22, [.int (nI m8), .int x9, .int x10, .ref a11]))) {Q2 : Rs → Wd → Prop} (e2 : Ev G mJ22_hasNext [.ref a7] w Q2) (k2 : ∀ r w', Q2 r w' → Af G mX1_isOnRing 40 45 [(0, .ref a1), (1, .ref a2), (2, .ref a3), (3, .ref a4), (4, .int (nI m5)), (5, .int (nI m6)), (6, .ref a7)] [] r w' Q) : Rn G mX1_isOnRing 38 [(0, .ref a1), (1, .ref a2), (2, .ref a3), (3, .ref a4), (4, .int (nI m5)), (5, .int (nI m6)), (6, .ref a7)] [] w Q := by
  refine r_aload 22 40 6 rfl rfl rfl ?_
  exact r_callF lkF_X1_110_J22 (C := RJ22) (TT := TJ22) (NN := 4) rfl o1 23 45 rfl rfl (by decide) [] rfl rfl (Nat.le_of_ble_eq_true rfl) (Nat.le_of_ble_eq_true rfl) e2 (fun r w' h => Af.sub [0, 1, 2, 3, 4, 5, 6] rfl (k2 r w' h))
theorem e_X1_isOnRing_45 {G : Gm} {κ : Nat → Nat} {φ : Nat → Option Nat} (hS : GS G κ φ) {w : Wd} {Q : Rs → Wd → Prop} {a1 : Nat} {a2 : Nat} {a3 : Nat} {a4 : Nat} {m5 : Nat} {m6 : Nat} {a7 : Nat} {x8 : Int32} {m9 : Nat} {x10 : Int32} {x11 : Int32} {a12 : Nat} (k1 : x8 = 0 → Rn G mX1_isOnRing 17 [(0, .ref a1), (1, .ref a2), (2, .ref a3), (3, .ref a4), (4, .int (nI m5)), (5, .int (nI (m6 + 1)))] [] w Q) (o2 : Lk G w a7 (.inl (nJ22, [.int (nI m9), .int x10, .int x11, .ref a12]))) {Q3 : Rs → Wd → Prop} (e3 : ¬ x8 = 0 → Ev G mJ22_next [.ref a7] w Q3) (k3 : ¬ x8 = 0 → ∀ r w', Q3 r w' → Af G mX1_isOnRing 50 55 [(0, .ref a1), (1, .ref a2), (2, .ref a3), (3, .ref a4), (4, .int (nI m5)), (5, .int (nI m6)), (6, .ref a7)] [] r w' Q) : Rn G mX1_isOnRing 45 [(0, .ref a1), (1, .ref a2), (2, .ref a3), (3, .ref a4), (4, .int (nI m5)), (5, .int (nI m6)), (6, .ref a7)] [.int x8] w Q := by
  refine r_if_eq 24 48 133 rfl rfl rfl (fun c1 => ?_) (fun c1 => ?_)
  · refine r_iinc (v := (nI (m6 + 1))) (lv' := [(5, .int (nI (m6 + 1))), (0, .ref a1), (1, .ref a2), (2, .ref a3), (3, .ref a4), (4, .int (nI m5)), (6, .ref a7)]) 63 136 5 rfl rfl rfl (by rw [di_1]; exact nI_add _ _) (Nat.le_of_ble_eq_true rfl) rfl ?_
    refine r_goto 64 17 rfl rfl ?_
    exact r_sub [1, 2, 3, 4, 5, 0] rfl (k1 c1)
  · refine r_aload 25 50 6 rfl rfl rfl ?_
    exact r_callF lkF_X1_115_J22 (C := RJ22) (TT := TJ22) (NN := 4) rfl o2 26 55 rfl rfl (by decide) [] rfl rfl (Nat.le_of_ble_eq_true rfl) (Nat.le_of_ble_eq_true rfl) (e3 c1) (fun r w' h => Af.sub [0, 1, 2, 3, 4, 5, 6] rfl ((k3 c1) r w' h))
theorem e_X1_isOnRing_55 {G : Gm} {κ : Nat → Nat} {φ : Nat → Option Nat} (hS : GS G κ φ) {w : Wd} {Q : Rs → Wd → Prop} {a1 : Nat} {a2 : Nat} {a3 : Nat} {a4 : Nat} {m5 : Nat} {m6 : Nat} {a7 : Nat} {a8 : Nat} {a9 : Nat} {a10 : Nat} {a11 : Nat} (o1 : Lk G w a8 (.inl (nX8, [.ref a9, .ref a10, .ref a11]))) (k2 : Rn G mX1_isOnRing 63 [(0, .ref a1), (1, .ref a2), (2, .ref a3), (3, .ref a4), (4, .int (nI m5)), (5, .int (nI m6)), (6, .ref a7), (7, .ref a8), (8, .int 0)] [] w Q) : Rn G mX1_isOnRing 55 [(0, .ref a1), (1, .ref a2), (2, .ref a3), (3, .ref a4), (4, .int (nI m5)), (5, .int (nI m6)), (6, .ref a7)] [.ref a8] w Q := by
  refine r_castS (C := RX8) (TT := TX8) (NN := 3) rfl q1690 27 58 rfl rfl o1 ?_
  refine r_astore (lv' := [(7, .ref a8), (0, .ref a1), (1, .ref a2), (2, .ref a3), (3, .ref a4), (4, .int (nI m5)), (5, .int (nI m6)), (6, .ref a7)]) 28 60 rfl rfl (Nat.le_of_ble_eq_true rfl) rfl ?_
  refine r_iconst 29 61 rfl rfl di_0 ?_
  refine r_istore (lv' := [(8, .int 0), (7, .ref a8), (0, .ref a1), (1, .ref a2), (2, .ref a3), (3, .ref a4), (4, .int (nI m5)), (5, .int (nI m6)), (6, .ref a7)]) 30 63 rfl rfl (Nat.le_of_ble_eq_true rfl) rfl ?_
  exact r_sub [2, 3, 4, 5, 6, 7, 8, 1, 0] rfl k2
theorem e_X1_isOnRing_63 {G : Gm} {κ : Nat → Nat} {φ : Nat → Option Nat} (hS : GS G κ φ) {w : Wd} {Q : Rs → Wd → Prop} {a1 : Nat} {a2 : Nat} {a3 : Nat} {a4 : Nat} {m5 : Nat} {m6 : Nat} {a7 : Nat} {a8 : Nat} {m9 : Nat} {a10 : Nat} {a11 : Nat} {a12 : Nat} {n13 : Nat} {g14 : Nat → Int32} {a15 : Nat} {m16 : Nat} (o1 : Lk G w a8 (.inl (nX8, [.ref a10, .ref a11, .ref a12]))) (o2 : Lk G w a12 (arI .int n13 g14)) (bd3 : m9 < 2 ^ 31) (bd4 : n13 < 2 ^ 31) (k5 : a10 = (κ 12) → n13 ≤ m9 → Rn G mX1_isOnRing 38 [(0, .ref a1), (1, .ref a2), (2, .ref a3), (3, .ref a4), (4, .int (nI m5)), (5, .int (nI m6)), (6, .ref a7)] [] w Q) (b6 : a10 = (κ 12) → ¬ n13 ≤ m9 → m9 < n13) (o7 : Lk G w a3 (.inl (nJ21, [.ref a15, .int (nI m16), .int 0]))) {Q8 : Rs → Wd → Prop} (e8 : a10 = (κ 12) → ¬ n13 ≤ m9 → Ev G mJ21_get [.ref a3, .int (g14 m9)] w Q8) (k8 : a10 = (κ 12) → ¬ n13 ≤ m9 → ∀ r w', Q8 r w' → Af G mX1_isOnRing 91 94 [(0, .ref a1), (1, .ref a2), (2, .ref a3), (3, .ref a4), (4, .int (nI m5)), (5, .int (nI m6)), (6, .ref a7), (7, .ref a8), (8, .int (nI m9))] [] r w' Q) (k9 : ¬ a10 = (κ 12) → ¬ a10 = (κ 14) → Rn G mX1_isOnRing 38 [(0, .ref a1), (1, .ref a2), (2, .ref a3), (3, .ref a4), (4, .int (nI m5)), (5, .int (nI m6)), (6, .ref a7)] [] w Q) (k10 : ¬ a10 = (κ 12) → a10 = (κ 14) → n13 ≤ m9 → Rn G mX1_isOnRing 38 [(0, .ref a1), (1, .ref a2), (2, .ref a3), (3, .ref a4), (4, .int (nI m5)), (5, .int (nI m6)), (6, .ref a7)] [] w Q) (b11 : ¬ a10 = (κ 12) → a10 = (κ 14) → ¬ n13 ≤ m9 → m9 < n13) {Q12 : Rs → Wd → Prop} (e12 : ¬ a10 = (κ 12) → a10 = (κ 14) → ¬ n13 ≤ m9 → Ev G mJ21_get [.ref a3, .int (g14 m9)] w Q12) (k12 : ¬ a10 = (κ 12) → a10 = (κ 14) → ¬ n13 ≤ m9 → ∀ r w', Q12 r w' → Af G mX1_isOnRing 91 94 [(0, .ref a1), (1, .ref a2), (2, .ref a3), (3, .ref a4), (4, .int (nI m5)), (5, .int (nI m6)), (6, .ref a7), (7, .ref a8), (8, .int (nI m9))] [] r w' Q) : Rn G mX1_isOnRing 63 [(0, .ref a1), (1, .ref a2), (2, .ref a3), (3, .ref a4), (4, .int (nI m5)), (5, .int (nI m6)), (6, .ref a7), (7, .ref a8), (8, .int (nI m9))] [] w Q := by
  refine r_aload 31 65 7 rfl rfl rfl ?_
  refine r_callV lkV_X1_190_X8 (C := RX8) (TT := TX8) (NN := 3) rfl o1 32 68 rfl rfl (by decide) [] rfl rfl (Nat.le_of_ble_eq_true rfl) (Nat.le_of_ble_eq_true rfl) (e_X8_refers hS (o1 := o1) (k2 := fun z0_0 => ?_) (k3 := fun z0_0 => fun z0_1 => ?_) (k4 := fun z0_0 => fun z0_1 => ?_)) (fun _ _ h => h)
  · show Rn G mX1_isOnRing 68 [(0, .ref a1), (1, .ref a2), (2, .ref a3), (3, .ref a4), (4, .int (nI m5)), (5, .int (nI m6)), (6, .ref a7), (7, .ref a8), (8, .int (nI m9))] [.int 1] w _
    refine r_if_eq 33 71 130 rfl rfl rfl (fun c => absurd c (by decide)) (fun _ => ?_)
    refine r_iload 34 73 8 rfl rfl rfl ?_
    refine r_aload 35 75 7 rfl rfl rfl ?_
    refine r_getN (i := 2) (host := "ExchangeText") (T := TX8) (C := RX8) (NN := 3) rfl (by decide) q1255 36 78 rfl rfl o1 rfl ?_
    refine r_alen 37 79 rfl rfl o2 ?_
    refine y_icmp_ge (a := m9) (b := n13) bd3 bd4 38 82 130 rfl rfl rfl (fun c2 => ?_) (fun c2 => ?_)
    · refine r_goto 62 38 rfl rfl ?_
      exact r_sub [0, 1, 2, 3, 4, 5, 6] rfl (k5 z0_0 c2)
    · refine r_aload_n 39 83 2 rfl rfl rfl ?_
      refine r_aload 40 85 7 rfl rfl rfl ?_
      refine r_getN (i := 2) (host := "ExchangeText") (T := TX8) (C := RX8) (NN := 3) rfl (by decide) q1255 41 88 rfl rfl o1 rfl ?_
      refine r_iload 42 90 8 rfl rfl rfl ?_
      refine y_iald (i := m9) 43 91 rfl rfl o2 (b6 z0_0 c2) (by omega) ?_
      exact r_callV lkV_X1_262_J21 (C := RJ21) (TT := TJ21) (NN := 3) rfl o7 44 94 rfl rfl (by decide) [.int (g14 m9)] rfl rfl (Nat.le_of_ble_eq_true rfl) (Nat.le_of_ble_eq_true rfl) (e8 z0_0 c2) (fun r w' h => Af.sub [0, 1, 2, 3, 4, 5, 6, 7, 8] rfl ((k8 z0_0 c2) r w' h))
  · show Rn G mX1_isOnRing 68 [(0, .ref a1), (1, .ref a2), (2, .ref a3), (3, .ref a4), (4, .int (nI m5)), (5, .int (nI m6)), (6, .ref a7), (7, .ref a8), (8, .int (nI m9))] [.int 0] w _
    refine r_if_eq 33 71 130 rfl rfl rfl (fun _ => ?_) (fun c => absurd c (by decide))
    refine r_goto 62 38 rfl rfl ?_
    exact r_sub [0, 1, 2, 3, 4, 5, 6] rfl (k9 z0_0 z0_1)
  · show Rn G mX1_isOnRing 68 [(0, .ref a1), (1, .ref a2), (2, .ref a3), (3, .ref a4), (4, .int (nI m5)), (5, .int (nI m6)), (6, .ref a7), (7, .ref a8), (8, .int (nI m9))] [.int 1] w _
    refine r_if_eq 33 71 130 rfl rfl rfl (fun c => absurd c (by decide)) (fun _ => ?_)
    refine r_iload 34 73 8 rfl rfl rfl ?_
    refine r_aload 35 75 7 rfl rfl rfl ?_
    refine r_getN (i := 2) (host := "ExchangeText") (T := TX8) (C := RX8) (NN := 3) rfl (by decide) q1255 36 78 rfl rfl o1 rfl ?_
    refine r_alen 37 79 rfl rfl o2 ?_
    refine y_icmp_ge (a := m9) (b := n13) (by omega) (by omega) 38 82 130 rfl rfl rfl (fun c3 => ?_) (fun c3 => ?_)
    · refine r_goto 62 38 rfl rfl ?_
      exact r_sub [0, 1, 2, 3, 4, 5, 6] rfl (k10 z0_0 z0_1 c3)
    · refine r_aload_n 39 83 2 rfl rfl rfl ?_
      refine r_aload 40 85 7 rfl rfl rfl ?_
      refine r_getN (i := 2) (host := "ExchangeText") (T := TX8) (C := RX8) (NN := 3) rfl (by decide) q1255 41 88 rfl rfl o1 rfl ?_
      refine r_iload 42 90 8 rfl rfl rfl ?_
      refine y_iald (i := m9) 43 91 rfl rfl o2 (b11 z0_0 z0_1 c3) (by omega) ?_
      exact r_callV lkV_X1_262_J21 (C := RJ21) (TT := TJ21) (NN := 3) rfl o7 44 94 rfl rfl (by decide) [.int (g14 m9)] rfl rfl (Nat.le_of_ble_eq_true rfl) (Nat.le_of_ble_eq_true rfl) (e12 z0_0 z0_1 c3) (fun r w' h => Af.sub [0, 1, 2, 3, 4, 5, 6, 7, 8] rfl ((k12 z0_0 z0_1 c3) r w' h))
theorem e_X1_isOnRing_94 {G : Gm} {κ : Nat → Nat} {φ : Nat → Option Nat} (hS : GS G κ φ) {w : Wd} {Q : Rs → Wd → Prop} {a1 : Nat} {a2 : Nat} {a3 : Nat} {a4 : Nat} {m5 : Nat} {m6 : Nat} {a7 : Nat} {a8 : Nat} {m9 : Nat} {x10 : Int32} {a11 : Nat} {a12 : Nat} {a13 : Nat} {n14 : Nat} {g15 : Nat → Int32} {a16 : Nat} {m17 : Nat} (k1 : ¬ x10 = 0 → Rn G mX1_isOnRing 63 [(0, .ref a1), (1, .ref a2), (2, .ref a3), (3, .ref a4), (4, .int (nI m5)), (5, .int (nI m6)), (6, .ref a7), (7, .ref a8), (8, .int (nI (m9 + 1)))] [] w Q) (o2 : Lk G w a8 (.inl (nX8, [.ref a11, .ref a12, .ref a13]))) (o3 : Lk G w a13 (arI .int n14 g15)) (b4 : x10 = 0 → m9 < n14) (bd5 : n14 < 2 ^ 31) (o6 : Lk G w a3 (.inl (nJ21, [.ref a16, .int (nI m17), .int 0]))) {Q7 : Rs → Wd → Prop} (e7 : x10 = 0 → Ev G mJ21_set [.ref a3, .int (g15 m9)] w Q7) (k7 : x10 = 0 → ∀ r w', Q7 r w' → Af G mX1_isOnRing 106 109 [(0, .ref a1), (1, .ref a2), (2, .ref a3), (3, .ref a4), (4, .int (nI m5)), (5, .int (nI m6)), (6, .ref a7), (7, .ref a8), (8, .int (nI m9))] [] r w' Q) : Rn G mX1_isOnRing 94 [(0, .ref a1), (1, .ref a2), (2, .ref a3), (3, .ref a4), (4, .int (nI m5)), (5, .int (nI m6)), (6, .ref a7), (7, .ref a8), (8, .int (nI m9))] [.int x10] w Q := by
  refine r_if_ne 45 97 124 rfl rfl rfl (fun c1 => ?_) (fun c1 => ?_)
  · refine r_iinc (v := (nI (m9 + 1))) (lv' := [(8, .int (nI (m9 + 1))), (0, .ref a1), (1, .ref a2), (2, .ref a3), (3, .ref a4), (4, .int (nI m5)), (5, .int (nI m6)), (6, .ref a7), (7, .ref a8)]) 60 127 8 rfl rfl rfl (by rw [di_1]; exact nI_add _ _) (Nat.le_of_ble_eq_true rfl) rfl ?_
    refine r_goto 61 63 rfl rfl ?_
    exact r_sub [1, 2, 3, 4, 5, 6, 7, 8, 0] rfl (k1 c1)
  · refine r_aload_n 46 98 2 rfl rfl rfl ?_
    refine r_aload 47 100 7 rfl rfl rfl ?_
    refine r_getN (i := 2) (host := "ExchangeText") (T := TX8) (C := RX8) (NN := 3) rfl (by decide) q1255 48 103 rfl rfl o2 rfl ?_
    refine r_iload 49 105 8 rfl rfl rfl ?_
    refine y_iald (i := m9) 50 106 rfl rfl o3 (b4 c1) bd5 ?_
    exact r_callV lkV_X1_264_J21 (C := RJ21) (TT := TJ21) (NN := 3) rfl o6 51 109 rfl rfl (by decide) [.int (g15 m9)] rfl rfl (Nat.le_of_ble_eq_true rfl) (Nat.le_of_ble_eq_true rfl) (e7 c1) (fun r w' h => Af.sub [0, 1, 2, 3, 4, 5, 6, 7, 8] rfl ((k7 c1) r w' h))
theorem e_X1_isOnRing_109 {G : Gm} {κ : Nat → Nat} {φ : Nat → Option Nat} (hS : GS G κ φ) {w : Wd} {Q : Rs → Wd → Prop} {a1 : Nat} {a2 : Nat} {a3 : Nat} {a4 : Nat} {m5 : Nat} {m6 : Nat} {a7 : Nat} {a8 : Nat} {m9 : Nat} {a10 : Nat} {a11 : Nat} {a12 : Nat} {n13 : Nat} {g14 : Nat → Int32} {n15 : Nat} {g16 : Nat → Int32} (o1 : Lk G w a8 (.inl (nX8, [.ref a10, .ref a11, .ref a12]))) (o2 : Lk G w a12 (arI .int n13 g14)) (b3 : m9 < n13) (bd4 : n13 < 2 ^ 31) (o5 : w.1 a4 = some (arI .int n15 g16)) (b6 : m5 < n15) (bd7 : n15 < 2 ^ 31) (k8 : Rn G mX1_isOnRing 63 [(0, .ref a1), (1, .ref a2), (2, .ref a3), (3, .ref a4), (4, .int (nI (m5 + 1))), (5, .int (nI m6)), (6, .ref a7), (7, .ref a8), (8, .int (nI (m9 + 1)))] [] (wset w a4 (arI .int n15 (upF g16 m5 (g14 m9)))) Q) : Rn G mX1_isOnRing 109 [(0, .ref a1), (1, .ref a2), (2, .ref a3), (3, .ref a4), (4, .int (nI m5)), (5, .int (nI m6)), (6, .ref a7), (7, .ref a8), (8, .int (nI m9))] [] w Q := by
  refine r_aload_n 52 110 3 rfl rfl rfl ?_
  refine r_iload 53 112 4 rfl rfl rfl ?_
  refine r_aload 54 114 7 rfl rfl rfl ?_
  refine r_getN (i := 2) (host := "ExchangeText") (T := TX8) (C := RX8) (NN := 3) rfl (by decide) q1255 55 117 rfl rfl o1 rfl ?_
  refine r_iload 56 119 8 rfl rfl rfl ?_
  refine y_iald (i := m9) 57 120 rfl rfl o2 b3 bd4 ?_
  refine y_iast (i := m5) 58 121 rfl rfl o5 b6 bd7 ?_
  show Rn G mX1_isOnRing 121 [(0, .ref a1), (1, .ref a2), (2, .ref a3), (3, .ref a4), (4, .int (nI m5)), (5, .int (nI m6)), (6, .ref a7), (7, .ref a8), (8, .int (nI m9))] [] (wset w a4 (arI .int n15 (upF g16 m5 (g14 m9)))) _
  refine r_iinc (v := (nI (m5 + 1))) (lv' := [(4, .int (nI (m5 + 1))), (0, .ref a1), (1, .ref a2), (2, .ref a3), (3, .ref a4), (5, .int (nI m6)), (6, .ref a7), (7, .ref a8), (8, .int (nI m9))]) 59 124 4 rfl rfl rfl (by rw [di_1]; exact nI_add _ _) (Nat.le_of_ble_eq_true rfl) rfl ?_
  refine r_iinc (v := (nI (m9 + 1))) (lv' := [(8, .int (nI (m9 + 1))), (4, .int (nI (m5 + 1))), (0, .ref a1), (1, .ref a2), (2, .ref a3), (3, .ref a4), (5, .int (nI m6)), (6, .ref a7), (7, .ref a8)]) 60 127 8 rfl rfl rfl (by rw [di_1]; exact nI_add _ _) (Nat.le_of_ble_eq_true rfl) rfl ?_
  refine r_goto 61 63 rfl rfl ?_
  exact r_sub [2, 3, 4, 5, 1, 6, 7, 8, 0] rfl k8
theorem e_X1_ring {G : Gm} {κ : Nat → Nat} {φ : Nat → Option Nat} (hS : GS G κ φ) {w : Wd} {Q : Rs → Wd → Prop} {a1 : Nat} {x2 : Int32} {a3 : Nat} {a4 : Nat} {a5 : Nat} {a6 : Nat} (hg : 18 ≤ w.2.2) (k1 : x2 < 0 → Q (.inr w.2.1) (wnew w (.inl (nJ12, [.null])) 6)) (o2 : Lk G w a1 (.inl (nX1, [.ref a3, .ref a4, .ref a5, .ref a6]))) {Q3 : Rs → Wd → Prop} (e3 : ¬ x2 < 0 → Ev G mX1_table [.ref a1] w Q3) (k3 : ¬ x2 < 0 → ∀ r w', Q3 r w' → Af G mX1_ring 15 18 [(0, .ref a1), (2, .int x2)] [] r w' Q) : Ev G mX1_ring [.ref a1, .int x2] w Q := by
  show Rn G mX1_ring 0 [(0, .ref a1), (1, .int x2)] [] w Q
  refine r_iload_n 0 1 1 rfl rfl rfl ?_
  refine r_if_lt 1 4 8 rfl rfl rfl (fun c1 => ?_) (fun c1 => ?_)
  · refine r_iconst 4 9 rfl rfl di_0 ?_
    refine r_callS lkS_X1_38 5 12 rfl rfl (by decide) [.int 0] rfl rfl (Nat.le_of_ble_eq_true rfl) (Nat.le_of_ble_eq_true rfl) (e_X1_need hS (hg := by show 18 ≤ w.2.2; omega) (k1 := fun z0 => absurd z0 (by decide)) (k2 := fun z1_0 => ?_)) (fun _ _ h => h)
    show Th G mX1_ring 9 [(0, .ref a1), (1, .int x2)] [] w.2.1 (wnew w (.inl (nJ12, [.null])) 6) _
    exact th_out rfl (k1 c1)
  · refine r_iconst 2 5 rfl rfl di_1 ?_
    refine r_goto 3 9 rfl rfl ?_
    refine r_callS lkS_X1_38 5 12 rfl rfl (by decide) [.int 1] rfl rfl (Nat.le_of_ble_eq_true rfl) (Nat.le_of_ble_eq_true rfl) (e_X1_need hS (hg := by show 18 ≤ w.2.2; omega) (k2 := fun z0 => absurd z0 (by decide)) (k1 := fun z1_0 => ?_)) (fun _ _ h => h)
    show Rn G mX1_ring 12 [(0, .ref a1), (1, .int x2)] [] w _
    refine r_iload_n 6 13 1 rfl rfl rfl ?_
    refine r_istore_n (lv' := [(2, .int x2), (0, .ref a1), (1, .int x2)]) 7 14 rfl rfl (Nat.le_of_ble_eq_true rfl) rfl ?_
    refine r_aload_n 8 15 1 rfl rfl rfl ?_
    exact r_callV lkV_X1_266_X1 (C := RX1) (TT := TX1) (NN := 4) rfl o2 9 18 rfl rfl (by decide) [] rfl rfl (Nat.le_of_ble_eq_true rfl) (Nat.le_of_ble_eq_true rfl) (e3 c1) (fun r w' h => Af.sub [1, 0] rfl ((k3 c1) r w' h))
theorem e_X1_ring_18 {G : Gm} {κ : Nat → Nat} {φ : Nat → Option Nat} (hS : GS G κ φ) {w : Wd} {Q : Rs → Wd → Prop} {a1 : Nat} {x2 : Int32} {a3 : Nat} {a4 : Nat} {a5 : Nat} {a6 : Nat} {a7 : Nat} {p8 : Option Nat} {p9 : Option Nat} {p10 : Option Nat} {m11 : Nat} {x12 : Int32} {p13 : Option Nat} {p14 : Option Nat} {p15 : Option Nat} (hg : 81 ≤ w.2.2) (o1 : Lk G w a1 (.inl (nX1, [.ref a4, .ref a5, .ref a6, .ref a7]))) (o2 : Lk G w a6 (.inl (nJ8, [va_rf p8, va_rf p9, .null, va_rf p10, .int (nI m11), .int x12, va_rf p13, va_rf p14, va_rf p15]))) {Q3 : Rs → Wd → Prop} (e3 : Ev G mJ8_entrySet [.ref a6] (wnew (wset (wnew (wset (wnew w (.inl (nJ21, [.null, .int 0, .int 0])) 3) w.2.1 (.inl (nJ21, [.null, .int 0, .int 0]))) (arL 1 (fun _ => 0)) 1) w.2.1 (.inl (nJ21, [.ref (w.2.1 + 1), .int 0, .int 0]))) (arI .int 41 (fun _ => 0)) 41) Q3) (k3 : ∀ r w', Q3 r w' → Af G mX1_ring 38 41 [(2, .int x2), (3, .ref a3), (4, .ref w.2.1), (5, .ref (w.2.1 + 2))] [] r w' Q) : Rn G mX1_ring 18 [(0, .ref a1), (2, .int x2)] [.ref a3] w Q := by
  refine Rn.wok fun hwk => ?_
  refine r_astore_n (lv' := [(3, .ref a3), (0, .ref a1), (2, .int x2)]) 10 19 rfl rfl (Nat.le_of_ble_eq_true rfl) rfl ?_
  refine r_new (fs := [.null, .int 0, .int 0]) (ty := tyJ21) (T := TJ21) (C := RJ21) (N := 3) (ci := nJ21) (n := 3) 11 22 rfl rfl rfl in_J21 tyJ21_ok q1881 q616 q87 rfl (by decide) (by show 12 + 3 ≤ w.2.2; omega) ?_
  show Rn G mX1_ring 22 [(3, .ref a3), (0, .ref a1), (2, .int x2)] [.ref w.2.1] (wnew w (.inl (nJ21, [.null, .int 0, .int 0])) 3) _
  refine r_dup 12 23 rfl rfl rfl ?_
  refine r_callI lkI_X1_270 13 26 rfl rfl (by decide) [] rfl rfl (Nat.le_of_ble_eq_true rfl) (Nat.le_of_ble_eq_true rfl) (e_J21_init hS (o1 := wnew_s) (hg := by show 13 ≤ w.2.2 - (12 + 3); omega) (k2 := ?_)) (fun _ _ h => h)
  show Rn G mX1_ring 26 [(3, .ref a3), (0, .ref a1), (2, .int x2)] [.ref w.2.1] (wset (wnew (wset (wnew w (.inl (nJ21, [.null, .int 0, .int 0])) 3) w.2.1 (.inl (nJ21, [.null, .int 0, .int 0]))) (arL 1 (fun _ => 0)) 1) w.2.1 (.inl (nJ21, [.ref (w.2.1 + 1), .int 0, .int 0]))) _
  refine r_astore (lv' := [(4, .ref w.2.1), (3, .ref a3), (0, .ref a1), (2, .int x2)]) 14 28 rfl rfl (Nat.le_of_ble_eq_true rfl) rfl ?_
  refine r_bipush 15 30 rfl rfl db_41 ?_
  refine y_newI (n := 41) 16 32 rfl rfl (by decide) (by show 12 + 41 ≤ w.2.2 - (12 + 3) - (12 + 1); omega) ?_
  show Rn G mX1_ring 32 [(4, .ref w.2.1), (3, .ref a3), (0, .ref a1), (2, .int x2)] [.ref (w.2.1 + 2)] (wnew (wset (wnew (wset (wnew w (.inl (nJ21, [.null, .int 0, .int 0])) 3) w.2.1 (.inl (nJ21, [.null, .int 0, .int 0]))) (arL 1 (fun _ => 0)) 1) w.2.1 (.inl (nJ21, [.ref (w.2.1 + 1), .int 0, .int 0]))) (arI .int 41 (fun _ => 0)) 41) _
  refine r_astore (lv' := [(5, .ref (w.2.1 + 2)), (4, .ref w.2.1), (3, .ref a3), (0, .ref a1), (2, .int x2)]) 17 34 rfl rfl (Nat.le_of_ble_eq_true rfl) rfl ?_
  refine r_aload_n 18 35 3 rfl rfl rfl ?_
  refine r_get (v := .ref a6) fl_X1_26_X1 19 38 rfl rfl (Lk.new_n (Lk.set_n (Lk.new_n (Lk.set_n (Lk.new_n o1 (by have := (o1.lt hwk); show a1 < w.2.1; omega)) (Nat.ne_of_lt (show a1 < w.2.1 from (by have := Lk.lt o1 hwk; omega)))) (by have := (o1.lt hwk); show a1 < (w.2.1 + 1); omega)) (Nat.ne_of_lt (show a1 < w.2.1 from (by have := Lk.lt o1 hwk; omega)))) (by have := (o1.lt hwk); show a1 < (w.2.1 + 2); omega)) rfl ?_
  exact r_callV lkV_X1_130_J8 (C := RJ8) (TT := TJ8) (NN := 9) rfl (Lk.new_n (Lk.set_n (Lk.new_n (Lk.set_n (Lk.new_n o2 (by have := (o2.lt hwk); show a6 < w.2.1; omega)) (Nat.ne_of_lt (show a6 < w.2.1 from (by have := Lk.lt o2 hwk; omega)))) (by have := (o2.lt hwk); show a6 < (w.2.1 + 1); omega)) (Nat.ne_of_lt (show a6 < w.2.1 from (by have := Lk.lt o2 hwk; omega)))) (by have := (o2.lt hwk); show a6 < (w.2.1 + 2); omega)) 20 41 rfl rfl (by decide) [] rfl rfl (Nat.le_of_ble_eq_true rfl) (Nat.le_of_ble_eq_true rfl) e3 (fun r w' h => Af.sub [4, 2, 1, 0] rfl (k3 r w' h))
theorem e_X1_ring_41 {G : Gm} {κ : Nat → Nat} {φ : Nat → Option Nat} (hS : GS G κ φ) {w : Wd} {Q : Rs → Wd → Prop} {x1 : Int32} {a2 : Nat} {a3 : Nat} {a4 : Nat} {a5 : Nat} {a6 : Nat} (o1 : Lk G w a5 (.inl (nJ31, [.ref a6]))) {Q2 : Rs → Wd → Prop} (e2 : Ev G mJ31_iterator [.ref a5] w Q2) (k2 : ∀ r w', Q2 r w' → Af G mX1_ring 41 46 [(2, .int x1), (3, .ref a2), (4, .ref a3), (5, .ref a4)] [] r w' Q) : Rn G mX1_ring 41 [(2, .int x1), (3, .ref a2), (4, .ref a3), (5, .ref a4)] [.ref a5] w Q := by
  exact r_callF lkF_X1_134_J31 (C := RJ31) (TT := TJ31) (NN := 1) rfl o1 21 46 rfl rfl (by decide) [] rfl rfl (Nat.le_of_ble_eq_true rfl) (Nat.le_of_ble_eq_true rfl) e2 (fun r w' h => Af.sub [0, 1, 2, 3] rfl (k2 r w' h))
theorem e_X1_ring_46 {G : Gm} {κ : Nat → Nat} {φ : Nat → Option Nat} (hS : GS G κ φ) {w : Wd} {Q : Rs → Wd → Prop} {x1 : Int32} {a2 : Nat} {a3 : Nat} {a4 : Nat} {a5 : Nat} (k1 : Rn G mX1_ring 48 [(2, .int x1), (3, .ref a2), (4, .ref a3), (5, .ref a4), (6, .ref a5)] [] w Q) : Rn G mX1_ring 46 [(2, .int x1), (3, .ref a2), (4, .ref a3), (5, .ref a4)] [.ref a5] w Q := by
  refine r_astore (lv' := [(6, .ref a5), (2, .int x1), (3, .ref a2), (4, .ref a3), (5, .ref a4)]) 22 48 rfl rfl (Nat.le_of_ble_eq_true rfl) rfl ?_
  exact r_sub [1, 2, 3, 4, 0] rfl k1
theorem e_X1_ring_48 {G : Gm} {κ : Nat → Nat} {φ : Nat → Option Nat} (hS : GS G κ φ) {w : Wd} {Q : Rs → Wd → Prop} {x1 : Int32} {a2 : Nat} {a3 : Nat} {a4 : Nat} {a5 : Nat} {p6 : Option Nat} {p7 : Option Nat} {x8 : Int32} {a9 : Nat} (o1 : Lk G w a5 (.inl (nJ33, [va_rf p6, va_rf p7, .int x8, .ref a9]))) {Q2 : Rs → Wd → Prop} (e2 : Ev G mJ32_hasNext [.ref a5] w Q2) (k2 : ∀ r w', Q2 r w' → Af G mX1_ring 50 55 [(2, .int x1), (3, .ref a2), (4, .ref a3), (5, .ref a4), (6, .ref a5)] [] r w' Q) : Rn G mX1_ring 48 [(2, .int x1), (3, .ref a2), (4, .ref a3), (5, .ref a4), (6, .ref a5)] [] w Q := by
  refine r_aload 23 50 4 rfl rfl rfl ?_
  exact r_callF lkF_X1_110_J33 (C := RJ33) (TT := TJ33) (NN := 4) rfl o1 24 55 rfl rfl (by decide) [] rfl rfl (Nat.le_of_ble_eq_true rfl) (Nat.le_of_ble_eq_true rfl) e2 (fun r w' h => Af.sub [0, 1, 2, 3, 4] rfl (k2 r w' h))
theorem e_X1_ring_55 {G : Gm} {κ : Nat → Nat} {φ : Nat → Option Nat} (hS : GS G κ φ) {w : Wd} {Q : Rs → Wd → Prop} {x1 : Int32} {a2 : Nat} {a3 : Nat} {a4 : Nat} {a5 : Nat} {x6 : Int32} {p7 : Option Nat} {p8 : Option Nat} {x9 : Int32} {a10 : Nat} (k1 : x6 = 0 → Q (.inl (some (.int (-1)))) w) (o2 : Lk G w a5 (.inl (nJ33, [va_rf p7, va_rf p8, .int x9, .ref a10]))) {Q3 : Rs → Wd → Prop} (e3 : ¬ x6 = 0 → Ev G mJ33_next [.ref a5] w Q3) (k3 : ¬ x6 = 0 → ∀ r w', Q3 r w' → Af G mX1_ring 60 65 [(2, .int x1), (3, .ref a2), (4, .ref a3), (5, .ref a4), (6, .ref a5)] [] r w' Q) : Rn G mX1_ring 55 [(2, .int x1), (3, .ref a2), (4, .ref a3), (5, .ref a4), (6, .ref a5)] [.int x6] w Q := by
  refine r_if_eq 25 58 115 rfl rfl rfl (fun c1 => ?_) (fun c1 => ?_)
  · refine r_iconst 47 116 rfl rfl di_m1 ?_
    exact r_iret 48 rfl rfl rfl (k1 c1)
  · refine r_aload 26 60 4 rfl rfl rfl ?_
    exact r_callF lkF_X1_115_J33 (C := RJ33) (TT := TJ33) (NN := 4) rfl o2 27 65 rfl rfl (by decide) [] rfl rfl (Nat.le_of_ble_eq_true rfl) (Nat.le_of_ble_eq_true rfl) (e3 c1) (fun r w' h => Af.sub [0, 1, 2, 3, 4] rfl ((k3 c1) r w' h))
theorem e_X1_ring_65 {G : Gm} {κ : Nat → Nat} {φ : Nat → Option Nat} (hS : GS G κ φ) {w : Wd} {Q : Rs → Wd → Prop} {x1 : Int32} {a2 : Nat} {a3 : Nat} {a4 : Nat} {a5 : Nat} {a6 : Nat} {a7 : Nat} {a8 : Nat} {p9 : Option Nat} {p10 : Option Nat} {p11 : Option Nat} {x12 : Int32} {m13 : Nat} {a14 : Nat} {a15 : Nat} (o1 : Lk G w a6 (.inl (nJ29, [.ref a7, .ref a8, va_rf p9, va_rf p10, va_rf p11, .int x12]))) (o2 : Lk G w a8 (.inl (nX7, [.int (nI m13), .ref a14, .ref a15]))) {Q3 : Rs → Wd → Prop} (e3 : Ev G mX1_isOnRing [.ref a8, .ref a2, .ref a3, .ref a4] w Q3) (k3 : ∀ r w', Q3 r w' → Af G mX1_ring 85 88 [(2, .int x1), (3, .ref a2), (4, .ref a3), (5, .ref a4), (6, .ref a5), (7, .ref a6)] [] r w' Q) : Rn G mX1_ring 65 [(2, .int x1), (3, .ref a2), (4, .ref a3), (5, .ref a4), (6, .ref a5)] [.ref a6] w Q := by
  refine r_castY (C := RJ29) (TT := TJ29) (NN := 6) rfl q1472 q1477 28 68 rfl rfl o1 ?_
  refine r_astore (lv' := [(7, .ref a6), (2, .int x1), (3, .ref a2), (4, .ref a3), (5, .ref a4), (6, .ref a5)]) 29 70 rfl rfl (Nat.le_of_ble_eq_true rfl) rfl ?_
  refine r_aload 30 72 0 rfl rfl rfl ?_
  refine r_callF lkF_X1_139_J29 (C := RJ29) (TT := TJ29) (NN := 6) rfl o1 31 77 rfl rfl (by decide) [] rfl rfl (Nat.le_of_ble_eq_true rfl) (Nat.le_of_ble_eq_true rfl) (e_J29_getValue hS (p6 := p11) (p5 := p10) (p4 := p9) (o1 := o1) (k2 := ?_)) (fun _ _ h => h)
  show Rn G mX1_ring 77 [(7, .ref a6), (2, .int x1), (3, .ref a2), (4, .ref a3), (5, .ref a4), (6, .ref a5)] [.ref a8] w _
  refine r_castS (C := RX7) (TT := TX7) (NN := 3) rfl q1392 32 80 rfl rfl o2 ?_
  refine r_aload_n 33 81 2 rfl rfl rfl ?_
  refine r_aload 34 83 3 rfl rfl rfl ?_
  refine r_aload 35 85 4 rfl rfl rfl ?_
  exact r_callS lkS_X1_271 36 88 rfl rfl (by decide) [.ref a8, .ref a2, .ref a3, .ref a4] rfl rfl (Nat.le_of_ble_eq_true rfl) (Nat.le_of_ble_eq_true rfl) e3 (fun r w' h => Af.sub [1, 2, 3, 4, 5, 0] rfl (k3 r w' h))
theorem e_X1_ring_88 {G : Gm} {κ : Nat → Nat} {φ : Nat → Option Nat} (hS : GS G κ φ) {w : Wd} {Q : Rs → Wd → Prop} {x1 : Int32} {a2 : Nat} {a3 : Nat} {a4 : Nat} {a5 : Nat} {a6 : Nat} {x7 : Int32} {a8 : Nat} {a9 : Nat} {p10 : Option Nat} {p11 : Option Nat} {p12 : Option Nat} {x13 : Int32} {x14 : Int32} (k1 : x7 = 0 → Rn G mX1_ring 48 [(2, .int x1), (3, .ref a2), (4, .ref a3), (5, .ref a4), (6, .ref a5)] [] w Q) (k2 : ¬ x7 = 0 → ¬ x1 = 0 → Rn G mX1_ring 48 [(2, .int (x1 + (-1))), (3, .ref a2), (4, .ref a3), (5, .ref a4), (6, .ref a5)] [] w Q) (o3 : Lk G w a6 (.inl (nJ29, [.ref a8, .ref a9, va_rf p10, va_rf p11, va_rf p12, .int x13]))) (o4 : Lk G w a8 (.inl (nJ20, [.int x14]))) (k5 : ¬ x7 = 0 → x1 = 0 → Q (.inl (some (.int x14))) w) : Rn G mX1_ring 88 [(2, .int x1), (3, .ref a2), (4, .ref a3), (5, .ref a4), (6, .ref a5), (7, .ref a6)] [.int x7] w Q := by
  refine r_if_eq 37 91 112 rfl rfl rfl (fun c1 => ?_) (fun c1 => ?_)
  · refine r_goto 46 48 rfl rfl ?_
    exact r_sub [0, 1, 2, 3, 4] rfl (k1 c1)
  · refine r_iload_n 38 92 0 rfl rfl rfl ?_
    refine r_if_ne 39 95 109 rfl rfl rfl (fun c2 => ?_) (fun c2 => ?_)
    · refine r_iinc (v := (x1 + (-1))) (lv' := [(2, .int (x1 + (-1))), (3, .ref a2), (4, .ref a3), (5, .ref a4), (6, .ref a5), (7, .ref a6)]) 45 112 0 rfl rfl rfl (congrArg (fun z => x1 + z) di_m1) (Nat.le_of_ble_eq_true rfl) rfl ?_
      refine r_goto 46 48 rfl rfl ?_
      exact r_sub [0, 1, 2, 3, 4] rfl (k2 c1 c2)
    · refine r_aload 40 97 5 rfl rfl rfl ?_
      refine r_callF lkF_X1_175_J29 (C := RJ29) (TT := TJ29) (NN := 6) rfl o3 41 102 rfl rfl (by decide) [] rfl rfl (Nat.le_of_ble_eq_true rfl) (Nat.le_of_ble_eq_true rfl) (e_J29_getKey hS (p6 := p12) (p5 := p11) (p4 := p10) (o1 := o3) (k2 := ?_)) (fun _ _ h => h)
      show Rn G mX1_ring 102 [(2, .int x1), (3, .ref a2), (4, .ref a3), (5, .ref a4), (6, .ref a5), (7, .ref a6)] [.ref a8] w _
      refine r_castS (C := RJ20) (TT := TJ20) (NN := 1) rfl q1411 42 105 rfl rfl o4 ?_
      refine r_callV lkV_X1_123_J20 (C := RJ20) (TT := TJ20) (NN := 1) rfl o4 43 108 rfl rfl (by decide) [] rfl rfl (Nat.le_of_ble_eq_true rfl) (Nat.le_of_ble_eq_true rfl) (e_J20_intValue hS (o1 := o4) (k2 := ?_)) (fun _ _ h => h)
      show Rn G mX1_ring 108 [(2, .int x1), (3, .ref a2), (4, .ref a3), (5, .ref a4), (6, .ref a5), (7, .ref a6)] [.int x14] w _
      exact r_iret 44 rfl rfl rfl (k5 c1 c2)
theorem e_X1_place {G : Gm} {κ : Nat → Nat} {φ : Nat → Option Nat} (hS : GS G κ φ) {w : Wd} {Q : Rs → Wd → Prop} {a1 : Nat} {x2 : Int32} {x3 : Int32} {a4 : Nat} {a5 : Nat} {a6 : Nat} {a7 : Nat} (o1 : Lk G w a1 (.inl (nX1, [.ref a4, .ref a5, .ref a6, .ref a7]))) {Q2 : Rs → Wd → Prop} (e2 : Ev G mX1_lineOf [.ref a1, .int x2] w Q2) (k2 : ∀ r w', Q2 r w' → Af G mX1_place 2 5 [(0, .ref a1), (2, .int x3)] [] r w' Q) : Ev G mX1_place [.ref a1, .int x2, .int x3] w Q := by
  show Rn G mX1_place 0 [(0, .ref a1), (1, .int x2), (2, .int x3)] [] w Q
  refine r_aload_n 0 1 0 rfl rfl rfl ?_
  refine r_iload_n 1 2 1 rfl rfl rfl ?_
  exact r_callV lkV_X1_166_X1 (C := RX1) (TT := TX1) (NN := 4) rfl o1 2 5 rfl rfl (by decide) [.int x2] rfl rfl (Nat.le_of_ble_eq_true rfl) (Nat.le_of_ble_eq_true rfl) e2 (fun r w' h => Af.sub [0, 2] rfl (k2 r w' h))
theorem e_X1_place_5 {G : Gm} {κ : Nat → Nat} {φ : Nat → Option Nat} (hS : GS G κ φ) {w : Wd} {Q : Rs → Wd → Prop} {a1 : Nat} {x2 : Int32} {a3 : Nat} {m4 : Nat} {a5 : Nat} {a6 : Nat} (hg : 18 ≤ w.2.2) (k1 : x2 < 0 → Q (.inr w.2.1) (wnew w (.inl (nJ12, [.null])) 6)) (k2 : ¬ x2 < 0 → (2 : Int32) < x2 → Q (.inr w.2.1) (wnew w (.inl (nJ12, [.null])) 6)) (o3 : Lk G w a3 (.inl (nX7, [.int (nI m4), .ref a5, .ref a6]))) {Q4 : Rs → Wd → Prop} (e4 : ¬ x2 < 0 → ¬ (2 : Int32) < x2 → Ev G mX7_isPlaced [.ref a3] w Q4) (k4 : ¬ x2 < 0 → ¬ (2 : Int32) < x2 → ∀ r w', Q4 r w' → Af G mX1_place 16 19 [(0, .ref a1), (2, .int x2), (3, .ref a3)] [] r w' Q) : Rn G mX1_place 5 [(0, .ref a1), (2, .int x2)] [.ref a3] w Q := by
  refine r_astore_n (lv' := [(3, .ref a3), (0, .ref a1), (2, .int x2)]) 3 6 rfl rfl (Nat.le_of_ble_eq_true rfl) rfl ?_
  refine r_iload_n 4 7 2 rfl rfl rfl ?_
  refine r_if_lt 5 10 26 rfl rfl rfl (fun c1 => ?_) (fun c1 => ?_)
  · refine r_iconst 14 27 rfl rfl di_0 ?_
    refine r_callS lkS_X1_38 15 30 rfl rfl (by decide) [.int 0] rfl rfl (Nat.le_of_ble_eq_true rfl) (Nat.le_of_ble_eq_true rfl) (e_X1_need hS (hg := by show 18 ≤ w.2.2; omega) (k1 := fun z0 => absurd z0 (by decide)) (k2 := fun z1_0 => ?_)) (fun _ _ h => h)
    show Th G mX1_place 27 [(3, .ref a3), (0, .ref a1), (2, .int x2)] [] w.2.1 (wnew w (.inl (nJ12, [.null])) 6) _
    exact th_out rfl (k1 c1)
  · refine r_iload_n 6 11 2 rfl rfl rfl ?_
    refine r_iconst 7 12 rfl rfl di_2 ?_
    refine r_icmp_gt 8 15 26 rfl rfl rfl (fun c2 => ?_) (fun c2 => ?_)
    · refine r_iconst 14 27 rfl rfl di_0 ?_
      refine r_callS lkS_X1_38 15 30 rfl rfl (by decide) [.int 0] rfl rfl (Nat.le_of_ble_eq_true rfl) (Nat.le_of_ble_eq_true rfl) (e_X1_need hS (hg := by show 18 ≤ w.2.2; omega) (k1 := fun z0 => absurd z0 (by decide)) (k2 := fun z2_0 => ?_)) (fun _ _ h => h)
      show Th G mX1_place 27 [(3, .ref a3), (0, .ref a1), (2, .int x2)] [] w.2.1 (wnew w (.inl (nJ12, [.null])) 6) _
      exact th_out rfl (k2 c1 c2)
    · refine r_aload_n 9 16 0 rfl rfl rfl ?_
      exact r_callV lkV_X1_275_X7 (C := RX7) (TT := TX7) (NN := 3) rfl o3 10 19 rfl rfl (by decide) [] rfl rfl (Nat.le_of_ble_eq_true rfl) (Nat.le_of_ble_eq_true rfl) (e4 c1 c2) (fun r w' h => Af.sub [1, 2, 0] rfl ((k4 c1 c2) r w' h))
theorem e_X1_place_19 {G : Gm} {κ : Nat → Nat} {φ : Nat → Option Nat} (hS : GS G κ φ) {w : Wd} {Q : Rs → Wd → Prop} {a1 : Nat} {x2 : Int32} {a3 : Nat} {x4 : Int32} (hg : 18 ≤ w.2.2) (k1 : x4 = 0 → Q (.inr w.2.1) (wnew w (.inl (nJ12, [.null])) 6)) (k2 : ¬ x4 = 0 → Rn G mX1_place 30 [(0, .ref a1), (2, .int x2), (3, .ref a3)] [] w Q) : Rn G mX1_place 19 [(0, .ref a1), (2, .int x2), (3, .ref a3)] [.int x4] w Q := by
  refine r_if_eq 11 22 26 rfl rfl rfl (fun c1 => ?_) (fun c1 => ?_)
  · refine r_iconst 14 27 rfl rfl di_0 ?_
    refine r_callS lkS_X1_38 15 30 rfl rfl (by decide) [.int 0] rfl rfl (Nat.le_of_ble_eq_true rfl) (Nat.le_of_ble_eq_true rfl) (e_X1_need hS (hg := by show 18 ≤ w.2.2; omega) (k1 := fun z0 => absurd z0 (by decide)) (k2 := fun z1_0 => ?_)) (fun _ _ h => h)
    show Th G mX1_place 27 [(0, .ref a1), (2, .int x2), (3, .ref a3)] [] w.2.1 (wnew w (.inl (nJ12, [.null])) 6) _
    exact th_out rfl (k1 c1)
  · refine r_iconst 12 23 rfl rfl di_1 ?_
    refine r_goto 13 27 rfl rfl ?_
    refine r_callS lkS_X1_38 15 30 rfl rfl (by decide) [.int 1] rfl rfl (Nat.le_of_ble_eq_true rfl) (Nat.le_of_ble_eq_true rfl) (e_X1_need hS (hg := by show 18 ≤ w.2.2; omega) (k2 := fun z0 => absurd z0 (by decide)) (k1 := fun z1_0 => ?_)) (fun _ _ h => h)
    show Rn G mX1_place 30 [(0, .ref a1), (2, .int x2), (3, .ref a3)] [] w _
    exact (k2 c1)
theorem e_X1_place_30 {G : Gm} {κ : Nat → Nat} {φ : Nat → Option Nat} (hS : GS G κ φ) {w : Wd} {Q : Rs → Wd → Prop} {a1 : Nat} {m2 : Nat} {a3 : Nat} (hg : 28 ≤ w.2.2) (k1 : Rn G mX1_place 42 [(0, .ref a1), (2, .int (nI m2)), (3, .ref a3), (4, .ref w.2.1), (5, .long 0)] [] (wset (wnew (wset (wnew w (.inl (nJ21, [.null, .int 0, .int 0])) 3) w.2.1 (.inl (nJ21, [.null, .int 0, .int 0]))) (arL 1 (fun _ => 0)) 1) w.2.1 (.inl (nJ21, [.ref (w.2.1 + 1), .int 0, .int 0]))) Q) : Rn G mX1_place 30 [(0, .ref a1), (2, .int (nI m2)), (3, .ref a3)] [] w Q := by
  refine r_new (fs := [.null, .int 0, .int 0]) (ty := tyJ21) (T := TJ21) (C := RJ21) (N := 3) (ci := nJ21) (n := 3) 16 33 rfl rfl rfl in_J21 tyJ21_ok q1881 q616 q87 rfl (by decide) (by show 12 + 3 ≤ w.2.2; omega) ?_
  show Rn G mX1_place 33 [(0, .ref a1), (2, .int (nI m2)), (3, .ref a3)] [.ref w.2.1] (wnew w (.inl (nJ21, [.null, .int 0, .int 0])) 3) _
  refine r_dup 17 34 rfl rfl rfl ?_
  refine r_callI lkI_X1_270 18 37 rfl rfl (by decide) [] rfl rfl (Nat.le_of_ble_eq_true rfl) (Nat.le_of_ble_eq_true rfl) (e_J21_init hS (o1 := wnew_s) (hg := by show 13 ≤ w.2.2 - (12 + 3); omega) (k2 := ?_)) (fun _ _ h => h)
  show Rn G mX1_place 37 [(0, .ref a1), (2, .int (nI m2)), (3, .ref a3)] [.ref w.2.1] (wset (wnew (wset (wnew w (.inl (nJ21, [.null, .int 0, .int 0])) 3) w.2.1 (.inl (nJ21, [.null, .int 0, .int 0]))) (arL 1 (fun _ => 0)) 1) w.2.1 (.inl (nJ21, [.ref (w.2.1 + 1), .int 0, .int 0]))) _
  refine r_astore (lv' := [(4, .ref w.2.1), (0, .ref a1), (2, .int (nI m2)), (3, .ref a3)]) 19 39 rfl rfl (Nat.le_of_ble_eq_true rfl) rfl ?_
  refine r_lconst (v := 0) 20 40 rfl rfl rfl ?_
  refine r_lstore (lv' := [(5, .long 0), (4, .ref w.2.1), (0, .ref a1), (2, .int (nI m2)), (3, .ref a3)]) 21 42 rfl rfl (Nat.le_of_ble_eq_true rfl) rfl ?_
  exact r_sub [2, 3, 4, 1, 0] rfl k1
theorem e_X1_place_42 {G : Gm} {κ : Nat → Nat} {φ : Nat → Option Nat} (hS : GS G κ φ) {w : Wd} {Q : Rs → Wd → Prop} {a1 : Nat} {m2 : Nat} {a3 : Nat} {a4 : Nat} {y5 : Int64} {m6 : Nat} {a7 : Nat} {a8 : Nat} (o1 : Lk G w a3 (.inl (nX7, [.int (nI m6), .ref a7, .ref a8]))) {Q2 : Rs → Wd → Prop} (e2 : Ev G mX7_isPlaced [.ref a3] w Q2) (k2 : ∀ r w', Q2 r w' → Af G mX1_place 47 50 [(0, .ref a1), (2, .int (nI m2)), (3, .ref a3), (4, .ref a4), (5, .long y5)] [] r w' Q) : Rn G mX1_place 42 [(0, .ref a1), (2, .int (nI m2)), (3, .ref a3), (4, .ref a4), (5, .long y5)] [] w Q := by
  refine r_aload_n 22 43 2 rfl rfl rfl ?_
  refine r_ifnull 23 46 rfl rfl ?_
  refine r_aload_n 24 47 2 rfl rfl rfl ?_
  exact r_callV lkV_X1_275_X7 (C := RX7) (TT := TX7) (NN := 3) rfl o1 25 50 rfl rfl (by decide) [] rfl rfl (Nat.le_of_ble_eq_true rfl) (Nat.le_of_ble_eq_true rfl) e2 (fun r w' h => Af.sub [0, 1, 2, 3, 4] rfl (k2 r w' h))
theorem e_X1_place_50 {G : Gm} {κ : Nat → Nat} {φ : Nat → Option Nat} (hS : GS G κ φ) {w : Wd} {Q : Rs → Wd → Prop} {a1 : Nat} {m2 : Nat} {a3 : Nat} {a4 : Nat} {y5 : Int64} {x6 : Int32} {m7 : Nat} {a8 : Nat} {a9 : Nat} {a10 : Nat} {m11 : Nat} (k1 : x6 = 0 → Q (.inl (some (.long y5))) w) (o2 : Lk G w a3 (.inl (nX7, [.int (nI m7), .ref a8, .ref a9]))) (o3 : Lk G w a4 (.inl (nJ21, [.ref a10, .int (nI m11), .int 0]))) {Q4 : Rs → Wd → Prop} (e4 : ¬ x6 = 0 → Ev G mJ21_get [.ref a4, .int (nI m7)] w Q4) (k4 : ¬ x6 = 0 → ∀ r w', Q4 r w' → Af G mX1_place 59 62 [(0, .ref a1), (2, .int (nI m2)), (3, .ref a3), (4, .ref a4), (5, .long y5)] [] r w' Q) : Rn G mX1_place 50 [(0, .ref a1), (2, .int (nI m2)), (3, .ref a3), (4, .ref a4), (5, .long y5)] [.int x6] w Q := by
  refine r_if_eq 26 53 152 rfl rfl rfl (fun c1 => ?_) (fun c1 => ?_)
  · refine r_lload 73 154 4 rfl rfl rfl ?_
    exact r_lret 74 rfl rfl (k1 c1)
  · refine r_aload 27 55 3 rfl rfl rfl ?_
    refine r_aload_n 28 56 2 rfl rfl rfl ?_
    refine r_get (v := .int (nI m7)) fl_X1_91_X7 29 59 rfl rfl o2 rfl ?_
    exact r_callV lkV_X1_262_J21 (C := RJ21) (TT := TJ21) (NN := 3) rfl o3 30 62 rfl rfl (by decide) [.int (nI m7)] rfl rfl (Nat.le_of_ble_eq_true rfl) (Nat.le_of_ble_eq_true rfl) (e4 c1) (fun r w' h => Af.sub [0, 1, 2, 3, 4] rfl ((k4 c1) r w' h))
theorem e_X1_place_62 {G : Gm} {κ : Nat → Nat} {φ : Nat → Option Nat} (hS : GS G κ φ) {w : Wd} {Q : Rs → Wd → Prop} {a1 : Nat} {m2 : Nat} {a3 : Nat} {a4 : Nat} {y5 : Int64} {x6 : Int32} {m7 : Nat} {a8 : Nat} {a9 : Nat} {a10 : Nat} {m11 : Nat} (o1 : Lk G w a3 (.inl (nX7, [.int (nI m7), .ref a8, .ref a9]))) (o2 : Lk G w a4 (.inl (nJ21, [.ref a10, .int (nI m11), .int 0]))) {Q3 : Rs → Wd → Prop} (e3 : x6 = 0 → Ev G mJ21_set [.ref a4, .int (nI m7)] w Q3) (k3 : x6 = 0 → ∀ r w', Q3 r w' → Af G mX1_place 75 78 [(0, .ref a1), (2, .int (nI m2)), (3, .ref a3), (4, .ref a4), (5, .long y5)] [] r w' Q) (k4 : ¬ x6 = 0 → Q (.inl (some (.long 1000000000000))) w) : Rn G mX1_place 62 [(0, .ref a1), (2, .int (nI m2)), (3, .ref a3), (4, .ref a4), (5, .long y5)] [.int x6] w Q := by
  refine r_if_eq 31 65 69 rfl rfl rfl (fun c1 => ?_) (fun c1 => ?_)
  · refine r_aload 34 71 3 rfl rfl rfl ?_
    refine r_aload_n 35 72 2 rfl rfl rfl ?_
    refine r_get (v := .int (nI m7)) fl_X1_91_X7 36 75 rfl rfl o1 rfl ?_
    exact r_callV lkV_X1_264_J21 (C := RJ21) (TT := TJ21) (NN := 3) rfl o2 37 78 rfl rfl (by decide) [.int (nI m7)] rfl rfl (Nat.le_of_ble_eq_true rfl) (Nat.le_of_ble_eq_true rfl) (e3 c1) (fun r w' h => Af.sub [0, 1, 2, 3, 4] rfl ((k3 c1) r w' h))
  · refine r_ldc2 q1906 32 68 rfl rfl ?_
    exact r_lret 33 rfl rfl (k4 c1)
theorem e_X1_place_78 {G : Gm} {κ : Nat → Nat} {φ : Nat → Option Nat} (hS : GS G κ φ) {w : Wd} {Q : Rs → Wd → Prop} {a1 : Nat} {m2 : Nat} {a3 : Nat} {a4 : Nat} {y5 : Int64} {m6 : Nat} {a7 : Nat} {a8 : Nat} {x9 : Int32} {a10 : Nat} {m11 : Nat} {n12 : Nat} {g13 : Nat → Option Nat} {a14 : Nat} {a15 : Nat} {a16 : Nat} {a17 : Nat} {n18 : Nat} {g19 : Nat → Int32} {a20 : Nat} {a21 : Nat} {a22 : Nat} {a23 : Nat} {a24 : Nat} {a25 : Nat} {a26 : Nat} {a27 : Nat} {n28 : Nat} {g29 : Nat → Int32} (o1 : Lk G w a3 (.inl (nX7, [.int (nI m6), .ref a7, .ref a8]))) (o2 : Lk G w a8 (.inl (nJ6, [.int x9, .ref a10, .int (nI m11)]))) (o3 : Lk G w a10 (arR "java/lang/Object" n12 g13)) (b4 : m2 < 2 ^ 31) (b5 : m11 < 2 ^ 31) (f6 : m2 < m11) (b7 : m2 < n12) (b8 : n12 < 2 ^ 31) (q9 : (g13 m2) = some a14) (o10 : Lk G w a14 (.inl (nX8, [.ref a15, .ref a16, .ref a17]))) (o11 : Lk G w a17 (arI .int n18 g19)) (b12 : 0 < n18) (bd13 : n18 < 2 ^ 31) (f14 : 3 < m11) (b15 : 3 < n12) (q16 : (g13 3) = some a20) (o17 : Lk G w a20 (.inl (nX8, [.ref a21, .ref a22, .ref a23]))) (k18 : ¬ a21 = (κ 12) → Rn G mX1_place 42 [(0, .ref a1), (2, .int (nI m2)), (3, .null), (4, .ref a4), (5, .long (y5 + ((g19 0) : Int32).toInt64))] [] w Q) (o19 : Lk G w a1 (.inl (nX1, [.ref a24, .ref a25, .ref a26, .ref a27]))) (o20 : Lk G w a23 (arI .int n28 g29)) (b21 : a21 = (κ 12) → 0 < n28) (bd22 : n28 < 2 ^ 31) {Q23 : Rs → Wd → Prop} (e23 : a21 = (κ 12) → Ev G mJ20_valueOf [.int (g29 0)] w Q23) (k23 : a21 = (κ 12) → ∀ r w', Q23 r w' → Af G mX1_place 135 138 [(0, .ref a1), (2, .int (nI m2)), (4, .ref a4), (5, .long (y5 + ((g19 0) : Int32).toInt64))] [.ref a26] r w' Q) : Rn G mX1_place 78 [(0, .ref a1), (2, .int (nI m2)), (3, .ref a3), (4, .ref a4), (5, .long y5)] [] w Q := by
  refine r_lload 38 80 4 rfl rfl rfl ?_
  refine r_aload_n 39 81 2 rfl rfl rfl ?_
  refine r_get (v := .ref a8) fl_X1_155_X7 40 84 rfl rfl o1 rfl ?_
  refine r_iload_n 41 85 1 rfl rfl rfl ?_
  refine r_callV lkV_X1_170_J6 (C := RJ6) (TT := TJ6) (NN := 3) rfl o2 42 88 rfl rfl (by decide) [.int (nI m2)] rfl rfl (Nat.le_of_ble_eq_true rfl) (Nat.le_of_ble_eq_true rfl) (e_J6_get hS (a8 := a14) (m5 := m11) (m2 := m2) (o1 := o2) (b2 := b4) (b3 := b5) (f4 := f6) (o5 := o3) (b6 := b7) (b7 := b8) (q8 := q9) (k9 := ?_)) (fun _ _ h => h)
  show Rn G mX1_place 88 [(0, .ref a1), (2, .int (nI m2)), (3, .ref a3), (4, .ref a4), (5, .long y5)] [.ref a14, .long y5] w _
  refine r_castS (C := RX8) (TT := TX8) (NN := 3) rfl q1690 43 91 rfl rfl o10 ?_
  refine r_getN (i := 2) (host := "ExchangeText") (T := TX8) (C := RX8) (NN := 3) rfl (by decide) q1255 44 94 rfl rfl o10 rfl ?_
  refine r_iconst 45 95 rfl rfl di_0 ?_
  refine y_iald (i := 0) 46 96 rfl rfl o11 b12 bd13 ?_
  refine r_i2l 47 97 rfl rfl ?_
  refine r_ladd 48 98 rfl rfl ?_
  refine r_lstore (lv' := [(5, .long (y5 + ((g19 0) : Int32).toInt64)), (0, .ref a1), (2, .int (nI m2)), (3, .ref a3), (4, .ref a4)]) 49 100 rfl rfl (Nat.le_of_ble_eq_true rfl) rfl ?_
  refine r_aload_n 50 101 3 rfl rfl rfl ?_
  refine r_get (v := .ref a8) fl_X1_155_X7 51 104 rfl rfl o1 rfl ?_
  refine r_iconst 52 105 rfl rfl di_3 ?_
  refine r_callV lkV_X1_170_J6 (C := RJ6) (TT := TJ6) (NN := 3) rfl o2 53 108 rfl rfl (by decide) [.int 3] rfl rfl (Nat.le_of_ble_eq_true rfl) (Nat.le_of_ble_eq_true rfl) (e_J6_get hS (a8 := a20) (m5 := m11) (m2 := 3) (o1 := o2) (b2 := (by omega)) (b3 := (by omega)) (f4 := f14) (o5 := o3) (b6 := b15) (b7 := (by omega)) (q8 := q16) (k9 := ?_)) (fun _ _ h => h)
  show Rn G mX1_place 108 [(5, .long (y5 + ((g19 0) : Int32).toInt64)), (0, .ref a1), (2, .int (nI m2)), (3, .ref a3), (4, .ref a4)] [.ref a20] w _
  refine r_castS (C := RX8) (TT := TX8) (NN := 3) rfl q1690 54 111 rfl rfl o17 ?_
  refine r_astore (lv' := [(7, .ref a20), (5, .long (y5 + ((g19 0) : Int32).toInt64)), (0, .ref a1), (2, .int (nI m2)), (3, .ref a3), (4, .ref a4)]) 55 113 rfl rfl (Nat.le_of_ble_eq_true rfl) rfl ?_
  refine r_aload 56 115 0 rfl rfl rfl ?_
  refine r_getN (i := 0) (host := "ExchangeText") (T := TX8) (C := RX8) (NN := 3) rfl (by decide) q1250 57 118 rfl rfl o17 rfl ?_
  refine r_gets (v := .ref (κ 12)) (hS 12).1 q1798 58 121 rfl rfl ?_
  refine r_acmp_ne (rx := (some a21)) (ry := (some (κ 12))) 59 124 147 rfl rfl rfl rfl rfl (fun c1 => ?_) (fun c1 => ?_)
  · refine r_null 70 148 rfl rfl ?_
    refine r_astoreN_n (lv' := [(3, .null), (7, .ref a20), (5, .long (y5 + ((g19 0) : Int32).toInt64)), (0, .ref a1), (2, .int (nI m2)), (4, .ref a4)]) 71 149 rfl rfl (Nat.le_of_ble_eq_true rfl) rfl ?_
    refine r_goto 72 42 rfl rfl ?_
    exact r_sub [3, 4, 0, 5, 2] rfl (k18 (fun h => c1 (congrArg some h)))
  · refine r_aload_n 60 125 2 rfl rfl rfl ?_
    refine r_get (v := .ref a26) fl_X1_26_X1 61 128 rfl rfl o19 rfl ?_
    refine r_aload 62 130 0 rfl rfl rfl ?_
    refine r_getN (i := 2) (host := "ExchangeText") (T := TX8) (C := RX8) (NN := 3) rfl (by decide) q1255 63 133 rfl rfl o17 rfl ?_
    refine r_iconst 64 134 rfl rfl di_0 ?_
    refine y_iald (i := 0) 65 135 rfl rfl o20 (b21 (Option.some.inj c1)) bd22 ?_
    exact r_callS lkS_X1_96 66 138 rfl rfl (by decide) [.int (g29 0)] rfl rfl (Nat.le_of_ble_eq_true rfl) (Nat.le_of_ble_eq_true rfl) (e23 (Option.some.inj c1)) (fun r w' h => Af.sub [2, 3, 5, 1] rfl ((k23 (Option.some.inj c1)) r w' h))
theorem e_X1_place_138 {G : Gm} {κ : Nat → Nat} {φ : Nat → Option Nat} (hS : GS G κ φ) {w : Wd} {Q : Rs → Wd → Prop} {a1 : Nat} {m2 : Nat} {a3 : Nat} {y4 : Int64} {a5 : Nat} {a6 : Nat} {p7 : Option Nat} {p8 : Option Nat} {p9 : Option Nat} {m10 : Nat} {x11 : Int32} {p12 : Option Nat} {p13 : Option Nat} {p14 : Option Nat} (o1 : Lk G w a6 (.inl (nJ8, [va_rf p7, va_rf p8, .null, va_rf p9, .int (nI m10), .int x11, va_rf p12, va_rf p13, va_rf p14]))) {Q2 : Rs → Wd → Prop} (e2 : Ev G mJ8_get [.ref a6, .ref a5] w Q2) (k2 : ∀ r w', Q2 r w' → Af G mX1_place 138 141 [(0, .ref a1), (2, .int (nI m2)), (4, .ref a3), (5, .long y4)] [] r w' Q) : Rn G mX1_place 138 [(0, .ref a1), (2, .int (nI m2)), (4, .ref a3), (5, .long y4)] [.ref a5, .ref a6] w Q := by
  exact r_callV lkV_X1_162_J8 (C := RJ8) (TT := TJ8) (NN := 9) rfl o1 67 141 rfl rfl (by decide) [.ref a5] rfl rfl (Nat.le_of_ble_eq_true rfl) (Nat.le_of_ble_eq_true rfl) e2 (fun r w' h => Af.sub [0, 1, 2, 3] rfl (k2 r w' h))
theorem e_X1_place_141 {G : Gm} {κ : Nat → Nat} {φ : Nat → Option Nat} (hS : GS G κ φ) {w : Wd} {Q : Rs → Wd → Prop} {a1 : Nat} {m2 : Nat} {a3 : Nat} {y4 : Int64} {p5 : Option Nat} {m7 : Nat} {a8 : Nat} {a9 : Nat} (k1 : p5 = none → Rn G mX1_place 42 [(0, .ref a1), (2, .int (nI m2)), (3, .null), (4, .ref a3), (5, .long y4)] [] w Q) (o2 : ∀ pa6 : Nat, p5 = some pa6 → Lk G w pa6 (.inl (nX7, [.int (nI m7), .ref a8, .ref a9]))) (k3 : ∀ pa6 : Nat, p5 = some pa6 → Rn G mX1_place 42 [(0, .ref a1), (2, .int (nI m2)), (3, .ref pa6), (4, .ref a3), (5, .long y4)] [] w Q) : Rn G mX1_place 141 [(0, .ref a1), (2, .int (nI m2)), (4, .ref a3), (5, .long y4)] [va_rf p5] w Q := by
  cases p5 with
  | none =>
    refine r_castN 68 144 rfl rfl ?_
    refine r_goto 69 148 rfl rfl ?_
    refine r_astoreN_n (lv' := [(3, .null), (0, .ref a1), (2, .int (nI m2)), (4, .ref a3), (5, .long y4)]) 71 149 rfl rfl (Nat.le_of_ble_eq_true rfl) rfl ?_
    refine r_goto 72 42 rfl rfl ?_
    exact r_sub [1, 2, 0, 3, 4] rfl (k1 rfl)
  | some pa6 =>
    refine r_castS (C := RX7) (TT := TX7) (NN := 3) rfl q1392 68 144 rfl rfl (o2 pa6 rfl) ?_
    refine r_goto 69 148 rfl rfl ?_
    refine r_astore_n (lv' := [(3, .ref pa6), (0, .ref a1), (2, .int (nI m2)), (4, .ref a3), (5, .long y4)]) 71 149 rfl rfl (Nat.le_of_ble_eq_true rfl) rfl ?_
    refine r_goto 72 42 rfl rfl ?_
    exact r_sub [1, 2, 0, 3, 4] rfl (k3 pa6 rfl)
theorem e_X1_least {G : Gm} {κ : Nat → Nat} {φ : Nat → Option Nat} (hS : GS G κ φ) {w : Wd} {Q : Rs → Wd → Prop} {a1 : Nat} {a2 : Nat} {a3 : Nat} {a4 : Nat} {a5 : Nat} (o1 : Lk G w a1 (.inl (nX1, [.ref a2, .ref a3, .ref a4, .ref a5]))) {Q2 : Rs → Wd → Prop} (e2 : Ev G mX1_depths [.ref a1] w Q2) (k2 : ∀ r w', Q2 r w' → Af G mX1_least 1 4 [(0, .ref a1)] [] r w' Q) : Ev G mX1_least [.ref a1] w Q := by
  show Rn G mX1_least 0 [(0, .ref a1)] [] w Q
  refine r_aload_n 0 1 0 rfl rfl rfl ?_
  exact r_callV lkV_X1_207_X1 (C := RX1) (TT := TX1) (NN := 4) rfl o1 1 4 rfl rfl (by decide) [] rfl rfl (Nat.le_of_ble_eq_true rfl) (Nat.le_of_ble_eq_true rfl) e2 (fun r w' h => Af.sub [0] rfl (k2 r w' h))
theorem e_X1_least_4 {G : Gm} {κ : Nat → Nat} {φ : Nat → Option Nat} (hS : GS G κ φ) {w : Wd} {Q : Rs → Wd → Prop} {a1 : Nat} {a2 : Nat} {a3 : Nat} {a4 : Nat} {a5 : Nat} {a6 : Nat} {p7 : Option Nat} {p8 : Option Nat} {p9 : Option Nat} {m10 : Nat} {x11 : Int32} {p12 : Option Nat} {p13 : Option Nat} {p14 : Option Nat} (hg : 1012 ≤ w.2.2) (o1 : Lk G w a1 (.inl (nX1, [.ref a3, .ref a4, .ref a5, .ref a6]))) (o2 : Lk G w a5 (.inl (nJ8, [va_rf p7, va_rf p8, .null, va_rf p9, .int (nI m10), .int x11, va_rf p12, va_rf p13, va_rf p14]))) {Q3 : Rs → Wd → Prop} (e3 : Ev G mJ8_entrySet [.ref a5] (wnew w (arI .int 1000 (fun _ => 0)) 1000) Q3) (k3 : ∀ r w', Q3 r w' → Af G mX1_least 15 18 [(0, .ref a1), (1, .ref a2), (2, .ref w.2.1)] [] r w' Q) : Rn G mX1_least 4 [(0, .ref a1)] [.ref a2] w Q := by
  refine Rn.wok fun hwk => ?_
  refine r_astore_n (lv' := [(1, .ref a2), (0, .ref a1)]) 2 5 rfl rfl (Nat.le_of_ble_eq_true rfl) rfl ?_
  refine r_sipush 3 8 rfl rfl ds_1000 ?_
  refine y_newI (n := 1000) 4 10 rfl rfl (by decide) (by show 12 + 1000 ≤ w.2.2; omega) ?_
  show Rn G mX1_least 10 [(1, .ref a2), (0, .ref a1)] [.ref w.2.1] (wnew w (arI .int 1000 (fun _ => 0)) 1000) _
  refine r_astore_n (lv' := [(2, .ref w.2.1), (1, .ref a2), (0, .ref a1)]) 5 11 rfl rfl (Nat.le_of_ble_eq_true rfl) rfl ?_
  refine r_aload_n 6 12 2 rfl rfl rfl ?_
  refine r_get (v := .ref a5) fl_X1_26_X1 7 15 rfl rfl (Lk.new_n o1 (by have := (o1.lt hwk); show a1 < w.2.1; omega)) rfl ?_
  exact r_callV lkV_X1_130_J8 (C := RJ8) (TT := TJ8) (NN := 9) rfl (Lk.new_n o2 (by have := (o2.lt hwk); show a5 < w.2.1; omega)) 8 18 rfl rfl (by decide) [] rfl rfl (Nat.le_of_ble_eq_true rfl) (Nat.le_of_ble_eq_true rfl) e3 (fun r w' h => Af.sub [2, 1, 0] rfl (k3 r w' h))
theorem e_X1_least_18 {G : Gm} {κ : Nat → Nat} {φ : Nat → Option Nat} (hS : GS G κ φ) {w : Wd} {Q : Rs → Wd → Prop} {a1 : Nat} {a2 : Nat} {a3 : Nat} {a4 : Nat} {a5 : Nat} (o1 : Lk G w a4 (.inl (nJ31, [.ref a5]))) {Q2 : Rs → Wd → Prop} (e2 : Ev G mJ31_iterator [.ref a4] w Q2) (k2 : ∀ r w', Q2 r w' → Af G mX1_least 18 23 [(0, .ref a1), (1, .ref a2), (2, .ref a3)] [] r w' Q) : Rn G mX1_least 18 [(0, .ref a1), (1, .ref a2), (2, .ref a3)] [.ref a4] w Q := by
  exact r_callF lkF_X1_134_J31 (C := RJ31) (TT := TJ31) (NN := 1) rfl o1 9 23 rfl rfl (by decide) [] rfl rfl (Nat.le_of_ble_eq_true rfl) (Nat.le_of_ble_eq_true rfl) e2 (fun r w' h => Af.sub [0, 1, 2] rfl (k2 r w' h))
theorem e_X1_least_23 {G : Gm} {κ : Nat → Nat} {φ : Nat → Option Nat} (hS : GS G κ φ) {w : Wd} {Q : Rs → Wd → Prop} {a1 : Nat} {a2 : Nat} {a3 : Nat} {a4 : Nat} (k1 : Rn G mX1_least 24 [(0, .ref a1), (1, .ref a2), (2, .ref a3), (3, .ref a4)] [] w Q) : Rn G mX1_least 23 [(0, .ref a1), (1, .ref a2), (2, .ref a3)] [.ref a4] w Q := by
  refine r_astore_n (lv' := [(3, .ref a4), (0, .ref a1), (1, .ref a2), (2, .ref a3)]) 10 24 rfl rfl (Nat.le_of_ble_eq_true rfl) rfl ?_
  exact r_sub [1, 2, 3, 0] rfl k1
theorem e_X1_least_24 {G : Gm} {κ : Nat → Nat} {φ : Nat → Option Nat} (hS : GS G κ φ) {w : Wd} {Q : Rs → Wd → Prop} {a1 : Nat} {a2 : Nat} {a3 : Nat} {a4 : Nat} {p5 : Option Nat} {p6 : Option Nat} {x7 : Int32} {a8 : Nat} (o1 : Lk G w a4 (.inl (nJ33, [va_rf p5, va_rf p6, .int x7, .ref a8]))) {Q2 : Rs → Wd → Prop} (e2 : Ev G mJ32_hasNext [.ref a4] w Q2) (k2 : ∀ r w', Q2 r w' → Af G mX1_least 25 30 [(0, .ref a1), (1, .ref a2), (2, .ref a3), (3, .ref a4)] [] r w' Q) : Rn G mX1_least 24 [(0, .ref a1), (1, .ref a2), (2, .ref a3), (3, .ref a4)] [] w Q := by
  refine r_aload_n 11 25 3 rfl rfl rfl ?_
  exact r_callF lkF_X1_110_J33 (C := RJ33) (TT := TJ33) (NN := 4) rfl o1 12 30 rfl rfl (by decide) [] rfl rfl (Nat.le_of_ble_eq_true rfl) (Nat.le_of_ble_eq_true rfl) e2 (fun r w' h => Af.sub [0, 1, 2, 3] rfl (k2 r w' h))
theorem e_X1_least_30 {G : Gm} {κ : Nat → Nat} {φ : Nat → Option Nat} (hS : GS G κ φ) {w : Wd} {Q : Rs → Wd → Prop} {a1 : Nat} {a2 : Nat} {a3 : Nat} {a4 : Nat} {x5 : Int32} {p6 : Option Nat} {p7 : Option Nat} {x8 : Int32} {a9 : Nat} (hg : 46 ≤ w.2.2) (hg1 : x5 = 0 → (12 + 16) ≤ w.2.2 - (12 + 3) - (12 + 3) - (12 + 4)) (k2 : x5 = 0 → Rn G mX1_least 104 [(0, .ref a1), (1, .ref a2), (2, .ref a3), (3, .ref w.2.1), (4, .ref (w.2.1 + 1)), (5, .ref (w.2.1 + 2)), (6, .int 0)] [] (wset (wnew (wnew (wset (wnew (wset (wnew w (.inl (nJ6, [.int 0, .null, .int 0])) 3) w.2.1 (.inl (nJ6, [.int 0, .ref (κ 1), .int 0]))) (.inl (nJ6, [.int 0, .null, .int 0])) 3) (w.2.1 + 1) (.inl (nJ6, [.int 0, .ref (κ 1), .int 0]))) (.inl (nJ1, [.null, .int 0, .int 0, .int 0])) 4) (arB 16 (fun _ => 0)) 16) (w.2.1 + 2) (.inl (nJ1, [.ref (w.2.1 + 3), .int 0, .int 0, .int 0]))) Q) (o3 : Lk G w a4 (.inl (nJ33, [va_rf p6, va_rf p7, .int x8, .ref a9]))) {Q4 : Rs → Wd → Prop} (e4 : ¬ x5 = 0 → Ev G mJ33_next [.ref a4] w Q4) (k4 : ¬ x5 = 0 → ∀ r w', Q4 r w' → Af G mX1_least 34 39 [(0, .ref a1), (1, .ref a2), (2, .ref a3), (3, .ref a4)] [] r w' Q) : Rn G mX1_least 30 [(0, .ref a1), (1, .ref a2), (2, .ref a3), (3, .ref a4)] [.int x5] w Q := by
  refine r_if_eq 13 33 75 rfl rfl rfl (fun c1 => ?_) (fun c1 => ?_)
  · refine r_new (fs := [.int 0, .null, .int 0]) (ty := tyJ6) (T := TJ6) (C := RJ6) (N := 3) (ci := nJ6) (n := 3) 29 78 rfl rfl rfl in_J6 tyJ6_ok q146 q147 q67 rfl (by decide) (by show 12 + 3 ≤ w.2.2; omega) ?_
    show Rn G mX1_least 78 [(0, .ref a1), (1, .ref a2), (2, .ref a3), (3, .ref a4)] [.ref w.2.1] (wnew w (.inl (nJ6, [.int 0, .null, .int 0])) 3) _
    refine r_dup 30 79 rfl rfl rfl ?_
    refine r_callI lkI_X1_18 31 82 rfl rfl (by decide) [] rfl rfl (Nat.le_of_ble_eq_true rfl) (Nat.le_of_ble_eq_true rfl) (e_J6_init hS (o1 := wnew_s) (k2 := ?_)) (fun _ _ h => h)
    show Rn G mX1_least 82 [(0, .ref a1), (1, .ref a2), (2, .ref a3), (3, .ref a4)] [.ref w.2.1] (wset (wnew w (.inl (nJ6, [.int 0, .null, .int 0])) 3) w.2.1 (.inl (nJ6, [.int 0, .ref (κ 1), .int 0]))) _
    refine r_astore_n (lv' := [(3, .ref w.2.1), (0, .ref a1), (1, .ref a2), (2, .ref a3)]) 32 83 rfl rfl (Nat.le_of_ble_eq_true rfl) rfl ?_
    refine r_new (fs := [.int 0, .null, .int 0]) (ty := tyJ6) (T := TJ6) (C := RJ6) (N := 3) (ci := nJ6) (n := 3) 33 86 rfl rfl rfl in_J6 tyJ6_ok q146 q147 q67 rfl (by decide) (by show 12 + 3 ≤ w.2.2 - (12 + 3); omega) ?_
    show Rn G mX1_least 86 [(3, .ref w.2.1), (0, .ref a1), (1, .ref a2), (2, .ref a3)] [.ref (w.2.1 + 1)] (wnew (wset (wnew w (.inl (nJ6, [.int 0, .null, .int 0])) 3) w.2.1 (.inl (nJ6, [.int 0, .ref (κ 1), .int 0]))) (.inl (nJ6, [.int 0, .null, .int 0])) 3) _
    refine r_dup 34 87 rfl rfl rfl ?_
    refine r_callI lkI_X1_18 35 90 rfl rfl (by decide) [] rfl rfl (Nat.le_of_ble_eq_true rfl) (Nat.le_of_ble_eq_true rfl) (e_J6_init hS (o1 := wnew_s) (k2 := ?_)) (fun _ _ h => h)
    show Rn G mX1_least 90 [(3, .ref w.2.1), (0, .ref a1), (1, .ref a2), (2, .ref a3)] [.ref (w.2.1 + 1)] (wset (wnew (wset (wnew w (.inl (nJ6, [.int 0, .null, .int 0])) 3) w.2.1 (.inl (nJ6, [.int 0, .ref (κ 1), .int 0]))) (.inl (nJ6, [.int 0, .null, .int 0])) 3) (w.2.1 + 1) (.inl (nJ6, [.int 0, .ref (κ 1), .int 0]))) _
    refine r_astore (lv' := [(4, .ref (w.2.1 + 1)), (3, .ref w.2.1), (0, .ref a1), (1, .ref a2), (2, .ref a3)]) 36 92 rfl rfl (Nat.le_of_ble_eq_true rfl) rfl ?_
    refine r_new (fs := [.null, .int 0, .int 0, .int 0]) (ty := tyJ1) (T := TJ1) (C := RJ1) (N := 4) (ci := nJ1) (n := 4) 37 95 rfl rfl rfl in_J1 tyJ1_ok q113 q114 q62 rfl (by decide) (by show 12 + 4 ≤ w.2.2 - (12 + 3) - (12 + 3); omega) ?_
    show Rn G mX1_least 95 [(4, .ref (w.2.1 + 1)), (3, .ref w.2.1), (0, .ref a1), (1, .ref a2), (2, .ref a3)] [.ref (w.2.1 + 2)] (wnew (wset (wnew (wset (wnew w (.inl (nJ6, [.int 0, .null, .int 0])) 3) w.2.1 (.inl (nJ6, [.int 0, .ref (κ 1), .int 0]))) (.inl (nJ6, [.int 0, .null, .int 0])) 3) (w.2.1 + 1) (.inl (nJ6, [.int 0, .ref (κ 1), .int 0]))) (.inl (nJ1, [.null, .int 0, .int 0, .int 0])) 4) _
    refine r_dup 38 96 rfl rfl rfl ?_
    refine r_callI lkI_X1_9 39 99 rfl rfl (by decide) [] rfl rfl (Nat.le_of_ble_eq_true rfl) (Nat.le_of_ble_eq_true rfl) (e_J1_init hS (o1 := wnew_s) (hg2 := (hg1 c1)) (k3 := ?_)) (fun _ _ h => h)
    show Rn G mX1_least 99 [(4, .ref (w.2.1 + 1)), (3, .ref w.2.1), (0, .ref a1), (1, .ref a2), (2, .ref a3)] [.ref (w.2.1 + 2)] (wset (wnew (wnew (wset (wnew (wset (wnew w (.inl (nJ6, [.int 0, .null, .int 0])) 3) w.2.1 (.inl (nJ6, [.int 0, .ref (κ 1), .int 0]))) (.inl (nJ6, [.int 0, .null, .int 0])) 3) (w.2.1 + 1) (.inl (nJ6, [.int 0, .ref (κ 1), .int 0]))) (.inl (nJ1, [.null, .int 0, .int 0, .int 0])) 4) (arB 16 (fun _ => 0)) 16) (w.2.1 + 2) (.inl (nJ1, [.ref (w.2.1 + 3), .int 0, .int 0, .int 0]))) _
    refine r_astore (lv' := [(5, .ref (w.2.1 + 2)), (4, .ref (w.2.1 + 1)), (3, .ref w.2.1), (0, .ref a1), (1, .ref a2), (2, .ref a3)]) 40 101 rfl rfl (Nat.le_of_ble_eq_true rfl) rfl ?_
    refine r_iconst 41 102 rfl rfl di_0 ?_
    refine r_istore (lv' := [(6, .int 0), (5, .ref (w.2.1 + 2)), (4, .ref (w.2.1 + 1)), (3, .ref w.2.1), (0, .ref a1), (1, .ref a2), (2, .ref a3)]) 42 104 rfl rfl (Nat.le_of_ble_eq_true rfl) rfl ?_
    exact r_sub [4, 5, 6, 3, 2, 1, 0] rfl (k2 c1)
  · refine r_aload_n 14 34 3 rfl rfl rfl ?_
    exact r_callF lkF_X1_115_J33 (C := RJ33) (TT := TJ33) (NN := 4) rfl o3 15 39 rfl rfl (by decide) [] rfl rfl (Nat.le_of_ble_eq_true rfl) (Nat.le_of_ble_eq_true rfl) (e4 c1) (fun r w' h => Af.sub [0, 1, 2, 3] rfl ((k4 c1) r w' h))
theorem e_X1_least_104 {G : Gm} {κ : Nat → Nat} {φ : Nat → Option Nat} (hS : GS G κ φ) {w : Wd} {Q : Rs → Wd → Prop} {a1 : Nat} {a2 : Nat} {a3 : Nat} {a4 : Nat} {a5 : Nat} {a6 : Nat} {m7 : Nat} {a8 : Nat} {a9 : Nat} {a10 : Nat} {a11 : Nat} {p12 : Option Nat} {p13 : Option Nat} {p14 : Option Nat} {m15 : Nat} {x16 : Int32} {p17 : Option Nat} {p18 : Option Nat} {p19 : Option Nat} (bd1 : m7 < 2 ^ 31) (k2 : 40 < m7 → Q (.inl (some (.ref a3))) w) (o3 : Lk G w a1 (.inl (nX1, [.ref a8, .ref a9, .ref a10, .ref a11]))) (o4 : Lk G w a10 (.inl (nJ8, [va_rf p12, va_rf p13, .null, va_rf p14, .int (nI m15), .int x16, va_rf p17, va_rf p18, va_rf p19]))) {Q5 : Rs → Wd → Prop} (e5 : ¬ 40 < m7 → Ev G mJ8_entrySet [.ref a10] w Q5) (k5 : ¬ 40 < m7 → ∀ r w', Q5 r w' → Af G mX1_least 115 118 [(0, .ref a1), (1, .ref a2), (2, .ref a3), (3, .ref a4), (4, .ref a5), (5, .ref a6), (6, .int (nI m7))] [] r w' Q) : Rn G mX1_least 104 [(0, .ref a1), (1, .ref a2), (2, .ref a3), (3, .ref a4), (4, .ref a5), (5, .ref a6), (6, .int (nI m7))] [] w Q := by
  refine r_iload 43 106 6 rfl rfl rfl ?_
  refine r_bipush 44 108 rfl rfl db_40 ?_
  refine y_icmp_gt (a := m7) (b := 40) bd1 (by decide) 45 111 370 rfl rfl rfl (fun c1 => ?_) (fun c1 => ?_)
  · refine r_aload_n 147 371 2 rfl rfl rfl ?_
    exact r_aret 148 rfl rfl (Or.inr ⟨_, rfl⟩) (Or.inr ⟨_, rfl⟩) (k2 c1)
  · refine r_aload_n 46 112 0 rfl rfl rfl ?_
    refine r_get (v := .ref a10) fl_X1_26_X1 47 115 rfl rfl o3 rfl ?_
    exact r_callV lkV_X1_130_J8 (C := RJ8) (TT := TJ8) (NN := 9) rfl o4 48 118 rfl rfl (by decide) [] rfl rfl (Nat.le_of_ble_eq_true rfl) (Nat.le_of_ble_eq_true rfl) (e5 c1) (fun r w' h => Af.sub [0, 1, 2, 3, 4, 5, 6] rfl ((k5 c1) r w' h))
theorem e_X1_least_39 {G : Gm} {κ : Nat → Nat} {φ : Nat → Option Nat} (hS : GS G κ φ) {w : Wd} {Q : Rs → Wd → Prop} {a1 : Nat} {a2 : Nat} {a3 : Nat} {a4 : Nat} {a5 : Nat} {a6 : Nat} {a7 : Nat} {p8 : Option Nat} {p9 : Option Nat} {p10 : Option Nat} {x11 : Int32} {x12 : Int32} {m13 : Nat} {n14 : Nat} {g15 : Nat → Int32} (o1 : Lk G w a5 (.inl (nJ29, [.ref a6, .ref a7, va_rf p8, va_rf p9, va_rf p10, .int x11]))) (o2 : Lk G w a6 (.inl (nJ20, [.int x12]))) (q3 : x12 = nI m13) (o4 : w.1 a3 = some (arI .int n14 g15)) (b5 : m13 < n14) (bd6 : n14 < 2 ^ 31) (k7 : Rn G mX1_least 24 [(0, .ref a1), (1, .ref a2), (2, .ref a3), (3, .ref a4)] [] (wset w a3 (arI .int n14 (upF g15 m13 x12))) Q) : Rn G mX1_least 39 [(0, .ref a1), (1, .ref a2), (2, .ref a3), (3, .ref a4)] [.ref a5] w Q := by
  refine r_castY (C := RJ29) (TT := TJ29) (NN := 6) rfl q1472 q1477 16 42 rfl rfl o1 ?_
  refine r_astore (lv' := [(4, .ref a5), (0, .ref a1), (1, .ref a2), (2, .ref a3), (3, .ref a4)]) 17 44 rfl rfl (Nat.le_of_ble_eq_true rfl) rfl ?_
  refine r_aload_n 18 45 3 rfl rfl rfl ?_
  refine r_aload 19 47 0 rfl rfl rfl ?_
  refine r_callF lkF_X1_175_J29 (C := RJ29) (TT := TJ29) (NN := 6) rfl o1 20 52 rfl rfl (by decide) [] rfl rfl (Nat.le_of_ble_eq_true rfl) (Nat.le_of_ble_eq_true rfl) (e_J29_getKey hS (p6 := p10) (p5 := p9) (p4 := p8) (o1 := o1) (k2 := ?_)) (fun _ _ h => h)
  show Rn G mX1_least 52 [(4, .ref a5), (0, .ref a1), (1, .ref a2), (2, .ref a3), (3, .ref a4)] [.ref a6, .ref a3] w _
  refine r_castS (C := RJ20) (TT := TJ20) (NN := 1) rfl q1411 21 55 rfl rfl o2 ?_
  refine r_callV lkV_X1_123_J20 (C := RJ20) (TT := TJ20) (NN := 1) rfl o2 22 58 rfl rfl (by decide) [] rfl rfl (Nat.le_of_ble_eq_true rfl) (Nat.le_of_ble_eq_true rfl) (e_J20_intValue hS (o1 := o2) (k2 := ?_)) (fun _ _ h => h)
  show Rn G mX1_least 58 [(4, .ref a5), (0, .ref a1), (1, .ref a2), (2, .ref a3), (3, .ref a4)] [.int x12, .ref a3] w _
  refine x_eq q3 ?_
  refine r_aload 23 60 0 rfl rfl rfl ?_
  refine r_callF lkF_X1_175_J29 (C := RJ29) (TT := TJ29) (NN := 6) rfl o1 24 65 rfl rfl (by decide) [] rfl rfl (Nat.le_of_ble_eq_true rfl) (Nat.le_of_ble_eq_true rfl) (e_J29_getKey hS (p6 := p10) (p5 := p9) (p4 := p8) (o1 := o1) (k2 := ?_)) (fun _ _ h => h)
  show Rn G mX1_least 65 [(4, .ref a5), (0, .ref a1), (1, .ref a2), (2, .ref a3), (3, .ref a4)] [.ref a6, .int (nI m13), .ref a3] w _
  refine r_castS (C := RJ20) (TT := TJ20) (NN := 1) rfl q1411 25 68 rfl rfl o2 ?_
  refine r_callV lkV_X1_123_J20 (C := RJ20) (TT := TJ20) (NN := 1) rfl o2 26 71 rfl rfl (by decide) [] rfl rfl (Nat.le_of_ble_eq_true rfl) (Nat.le_of_ble_eq_true rfl) (e_J20_intValue hS (o1 := o2) (k2 := ?_)) (fun _ _ h => h)
  show Rn G mX1_least 71 [(4, .ref a5), (0, .ref a1), (1, .ref a2), (2, .ref a3), (3, .ref a4)] [.int x12, .int (nI m13), .ref a3] w _
  refine y_iast (i := m13) 27 72 rfl rfl o4 b5 bd6 ?_
  show Rn G mX1_least 72 [(4, .ref a5), (0, .ref a1), (1, .ref a2), (2, .ref a3), (3, .ref a4)] [] (wset w a3 (arI .int n14 (upF g15 m13 x12))) _
  refine r_goto 28 24 rfl rfl ?_
  exact r_sub [1, 2, 3, 4] rfl k7
theorem e_X1_least_118 {G : Gm} {κ : Nat → Nat} {φ : Nat → Option Nat} (hS : GS G κ φ) {w : Wd} {Q : Rs → Wd → Prop} {a1 : Nat} {a2 : Nat} {a3 : Nat} {a4 : Nat} {a5 : Nat} {a6 : Nat} {m7 : Nat} {a8 : Nat} {a9 : Nat} (o1 : Lk G w a8 (.inl (nJ31, [.ref a9]))) {Q2 : Rs → Wd → Prop} (e2 : Ev G mJ31_iterator [.ref a8] w Q2) (k2 : ∀ r w', Q2 r w' → Af G mX1_least 118 123 [(0, .ref a1), (1, .ref a2), (2, .ref a3), (3, .ref a4), (4, .ref a5), (5, .ref a6), (6, .int (nI m7))] [] r w' Q) : Rn G mX1_least 118 [(0, .ref a1), (1, .ref a2), (2, .ref a3), (3, .ref a4), (4, .ref a5), (5, .ref a6), (6, .int (nI m7))] [.ref a8] w Q := by
  exact r_callF lkF_X1_134_J31 (C := RJ31) (TT := TJ31) (NN := 1) rfl o1 49 123 rfl rfl (by decide) [] rfl rfl (Nat.le_of_ble_eq_true rfl) (Nat.le_of_ble_eq_true rfl) e2 (fun r w' h => Af.sub [0, 1, 2, 3, 4, 5, 6] rfl (k2 r w' h))
theorem e_X1_least_123 {G : Gm} {κ : Nat → Nat} {φ : Nat → Option Nat} (hS : GS G κ φ) {w : Wd} {Q : Rs → Wd → Prop} {a1 : Nat} {a2 : Nat} {a3 : Nat} {a4 : Nat} {a5 : Nat} {a6 : Nat} {m7 : Nat} {a8 : Nat} (k1 : Rn G mX1_least 125 [(0, .ref a1), (1, .ref a2), (2, .ref a3), (3, .ref a4), (4, .ref a5), (5, .ref a6), (6, .int (nI m7)), (7, .ref a8)] [] w Q) : Rn G mX1_least 123 [(0, .ref a1), (1, .ref a2), (2, .ref a3), (3, .ref a4), (4, .ref a5), (5, .ref a6), (6, .int (nI m7))] [.ref a8] w Q := by
  refine r_astore (lv' := [(7, .ref a8), (0, .ref a1), (1, .ref a2), (2, .ref a3), (3, .ref a4), (4, .ref a5), (5, .ref a6), (6, .int (nI m7))]) 50 125 rfl rfl (Nat.le_of_ble_eq_true rfl) rfl ?_
  exact r_sub [1, 2, 3, 4, 5, 6, 7, 0] rfl k1
theorem e_X1_least_125 {G : Gm} {κ : Nat → Nat} {φ : Nat → Option Nat} (hS : GS G κ φ) {w : Wd} {Q : Rs → Wd → Prop} {a1 : Nat} {a2 : Nat} {a3 : Nat} {a4 : Nat} {a5 : Nat} {a6 : Nat} {m7 : Nat} {a8 : Nat} {p9 : Option Nat} {p10 : Option Nat} {x11 : Int32} {a12 : Nat} (o1 : Lk G w a8 (.inl (nJ33, [va_rf p9, va_rf p10, .int x11, .ref a12]))) {Q2 : Rs → Wd → Prop} (e2 : Ev G mJ32_hasNext [.ref a8] w Q2) (k2 : ∀ r w', Q2 r w' → Af G mX1_least 127 132 [(0, .ref a1), (1, .ref a2), (2, .ref a3), (3, .ref a4), (4, .ref a5), (5, .ref a6), (6, .int (nI m7)), (7, .ref a8)] [] r w' Q) : Rn G mX1_least 125 [(0, .ref a1), (1, .ref a2), (2, .ref a3), (3, .ref a4), (4, .ref a5), (5, .ref a6), (6, .int (nI m7)), (7, .ref a8)] [] w Q := by
  refine r_aload 51 127 7 rfl rfl rfl ?_
  exact r_callF lkF_X1_110_J33 (C := RJ33) (TT := TJ33) (NN := 4) rfl o1 52 132 rfl rfl (by decide) [] rfl rfl (Nat.le_of_ble_eq_true rfl) (Nat.le_of_ble_eq_true rfl) e2 (fun r w' h => Af.sub [0, 1, 2, 3, 4, 5, 6, 7] rfl (k2 r w' h))
theorem e_X1_least_132 {G : Gm} {κ : Nat → Nat} {φ : Nat → Option Nat} (hS : GS G κ φ) {w : Wd} {Q : Rs → Wd → Prop} {a1 : Nat} {a2 : Nat} {a3 : Nat} {a4 : Nat} {a5 : Nat} {a6 : Nat} {m7 : Nat} {a8 : Nat} {x9 : Int32} {p10 : Option Nat} {p11 : Option Nat} {x12 : Int32} {a13 : Nat} (k1 : x9 = 0 → Rn G mX1_least 104 [(0, .ref a1), (1, .ref a2), (2, .ref a3), (3, .ref a4), (4, .ref a5), (5, .ref a6), (6, .int (nI (m7 + 1)))] [] w Q) (o2 : Lk G w a8 (.inl (nJ33, [va_rf p10, va_rf p11, .int x12, .ref a13]))) {Q3 : Rs → Wd → Prop} (e3 : ¬ x9 = 0 → Ev G mJ33_next [.ref a8] w Q3) (k3 : ¬ x9 = 0 → ∀ r w', Q3 r w' → Af G mX1_least 137 142 [(0, .ref a1), (1, .ref a2), (2, .ref a3), (3, .ref a4), (4, .ref a5), (5, .ref a6), (6, .int (nI m7)), (7, .ref a8)] [] r w' Q) : Rn G mX1_least 132 [(0, .ref a1), (1, .ref a2), (2, .ref a3), (3, .ref a4), (4, .ref a5), (5, .ref a6), (6, .int (nI m7)), (7, .ref a8)] [.int x9] w Q := by
  refine r_if_eq 53 135 364 rfl rfl rfl (fun c1 => ?_) (fun c1 => ?_)
  · refine r_iinc (v := (nI (m7 + 1))) (lv' := [(6, .int (nI (m7 + 1))), (0, .ref a1), (1, .ref a2), (2, .ref a3), (3, .ref a4), (4, .ref a5), (5, .ref a6), (7, .ref a8)]) 145 367 6 rfl rfl rfl (by rw [di_1]; exact nI_add _ _) (Nat.le_of_ble_eq_true rfl) rfl ?_
    refine r_goto 146 104 rfl rfl ?_
    exact r_sub [1, 2, 3, 4, 5, 6, 0] rfl (k1 c1)
  · refine r_aload 54 137 7 rfl rfl rfl ?_
    exact r_callF lkF_X1_115_J33 (C := RJ33) (TT := TJ33) (NN := 4) rfl o2 55 142 rfl rfl (by decide) [] rfl rfl (Nat.le_of_ble_eq_true rfl) (Nat.le_of_ble_eq_true rfl) (e3 c1) (fun r w' h => Af.sub [0, 1, 2, 3, 4, 5, 6, 7] rfl ((k3 c1) r w' h))
theorem e_X1_least_142 {G : Gm} {κ : Nat → Nat} {φ : Nat → Option Nat} (hS : GS G κ φ) {w : Wd} {Q : Rs → Wd → Prop} {a1 : Nat} {a2 : Nat} {a3 : Nat} {a4 : Nat} {a5 : Nat} {a6 : Nat} {m7 : Nat} {a8 : Nat} {a9 : Nat} {a10 : Nat} {a11 : Nat} {p12 : Option Nat} {p13 : Option Nat} {p14 : Option Nat} {x15 : Int32} {x16 : Int32} {m17 : Nat} {n18 : Nat} {g19 : Nat → Int32} {a20 : Nat} {x21 : Int32} {m22 : Nat} (o1 : Lk G w a9 (.inl (nJ29, [.ref a10, .ref a11, va_rf p12, va_rf p13, va_rf p14, .int x15]))) (o2 : Lk G w a10 (.inl (nJ20, [.int x16]))) (q3 : x16 = nI m17) (o4 : Lk G w a2 (arI .int n18 g19)) (b5 : m17 < n18) (bd6 : n18 < 2 ^ 31) (k7 : ¬ (g19 m17) = (nI m7) → Rn G mX1_least 125 [(0, .ref a1), (1, .ref a2), (2, .ref a3), (3, .ref a4), (4, .ref a5), (5, .ref a6), (6, .int (nI m7)), (7, .ref a8)] [] w Q) (o8 : Lk G w a6 (.inl (nJ1, [.ref a20, .int 0, .int x21, .int (nI m22)]))) {Q9 : Rs → Wd → Prop} (e9 : (g19 m17) = (nI m7) → Ev G mJ1_setLength [.ref a6, .int 0] w Q9) (k9 : (g19 m17) = (nI m7) → ∀ r w', Q9 r w' → Af G mX1_least 170 173 [(0, .ref a1), (1, .ref a2), (2, .ref a3), (3, .ref a4), (4, .ref a5), (5, .ref a6), (6, .int (nI m7)), (7, .ref a8), (8, .ref a9)] [] r w' Q) : Rn G mX1_least 142 [(0, .ref a1), (1, .ref a2), (2, .ref a3), (3, .ref a4), (4, .ref a5), (5, .ref a6), (6, .int (nI m7)), (7, .ref a8)] [.ref a9] w Q := by
  refine r_castY (C := RJ29) (TT := TJ29) (NN := 6) rfl q1472 q1477 56 145 rfl rfl o1 ?_
  refine r_astore (lv' := [(8, .ref a9), (0, .ref a1), (1, .ref a2), (2, .ref a3), (3, .ref a4), (4, .ref a5), (5, .ref a6), (6, .int (nI m7)), (7, .ref a8)]) 57 147 rfl rfl (Nat.le_of_ble_eq_true rfl) rfl ?_
  refine r_aload_n 58 148 2 rfl rfl rfl ?_
  refine r_aload 59 150 0 rfl rfl rfl ?_
  refine r_callF lkF_X1_175_J29 (C := RJ29) (TT := TJ29) (NN := 6) rfl o1 60 155 rfl rfl (by decide) [] rfl rfl (Nat.le_of_ble_eq_true rfl) (Nat.le_of_ble_eq_true rfl) (e_J29_getKey hS (p6 := p14) (p5 := p13) (p4 := p12) (o1 := o1) (k2 := ?_)) (fun _ _ h => h)
  show Rn G mX1_least 155 [(8, .ref a9), (0, .ref a1), (1, .ref a2), (2, .ref a3), (3, .ref a4), (4, .ref a5), (5, .ref a6), (6, .int (nI m7)), (7, .ref a8)] [.ref a10, .ref a2] w _
  refine r_castS (C := RJ20) (TT := TJ20) (NN := 1) rfl q1411 61 158 rfl rfl o2 ?_
  refine r_callV lkV_X1_123_J20 (C := RJ20) (TT := TJ20) (NN := 1) rfl o2 62 161 rfl rfl (by decide) [] rfl rfl (Nat.le_of_ble_eq_true rfl) (Nat.le_of_ble_eq_true rfl) (e_J20_intValue hS (o1 := o2) (k2 := ?_)) (fun _ _ h => h)
  show Rn G mX1_least 161 [(8, .ref a9), (0, .ref a1), (1, .ref a2), (2, .ref a3), (3, .ref a4), (4, .ref a5), (5, .ref a6), (6, .int (nI m7)), (7, .ref a8)] [.int x16, .ref a2] w _
  refine x_eq q3 ?_
  refine y_iald (i := m17) 63 162 rfl rfl o4 b5 bd6 ?_
  refine r_iload 64 164 7 rfl rfl rfl ?_
  refine r_icmp_ne 65 167 361 rfl rfl rfl (fun c1 => ?_) (fun c1 => ?_)
  · refine r_goto 144 125 rfl rfl ?_
    exact r_sub [1, 2, 3, 4, 5, 6, 7, 8] rfl (k7 c1)
  · refine r_aload 66 169 6 rfl rfl rfl ?_
    refine r_iconst 67 170 rfl rfl di_0 ?_
    exact r_callV lkV_X1_53_J1 (C := RJ1) (TT := TJ1) (NN := 4) rfl o8 68 173 rfl rfl (by decide) [.int 0] rfl rfl (Nat.le_of_ble_eq_true rfl) (Nat.le_of_ble_eq_true rfl) (e9 c1) (fun r w' h => Af.sub [1, 2, 3, 4, 5, 6, 7, 8, 0] rfl ((k9 c1) r w' h))
theorem e_X1_least_173 {G : Gm} {κ : Nat → Nat} {φ : Nat → Option Nat} (hS : GS G κ φ) {w : Wd} {Q : Rs → Wd → Prop} {a1 : Nat} {a2 : Nat} {a3 : Nat} {a4 : Nat} {a5 : Nat} {a6 : Nat} {m7 : Nat} {a8 : Nat} {a9 : Nat} {a10 : Nat} {a11 : Nat} {p12 : Option Nat} {p13 : Option Nat} {p14 : Option Nat} {x15 : Int32} {m16 : Nat} {a17 : Nat} {a18 : Nat} {a19 : Nat} {x20 : Int32} {m21 : Nat} (o1 : Lk G w a9 (.inl (nJ29, [.ref a10, .ref a11, va_rf p12, va_rf p13, va_rf p14, .int x15]))) (o2 : Lk G w a11 (.inl (nX7, [.int (nI m16), .ref a17, .ref a18]))) (o3 : Lk G w a6 (.inl (nJ1, [.ref a19, .int 0, .int x20, .int (nI m21)]))) {Q4 : Rs → Wd → Prop} (e4 : Ev G mJ1_append_2 [.ref a6, .ref a17] w Q4) (k4 : ∀ r w', Q4 r w' → Af G mX1_least 188 191 [(0, .ref a1), (1, .ref a2), (2, .ref a3), (3, .ref a4), (4, .ref a5), (5, .ref a6), (6, .int (nI m7)), (7, .ref a8), (8, .ref a9)] [] r w' Q) : Rn G mX1_least 173 [(0, .ref a1), (1, .ref a2), (2, .ref a3), (3, .ref a4), (4, .ref a5), (5, .ref a6), (6, .int (nI m7)), (7, .ref a8), (8, .ref a9)] [] w Q := by
  refine r_aload 69 175 5 rfl rfl rfl ?_
  refine r_aload 70 177 8 rfl rfl rfl ?_
  refine r_callF lkF_X1_139_J29 (C := RJ29) (TT := TJ29) (NN := 6) rfl o1 71 182 rfl rfl (by decide) [] rfl rfl (Nat.le_of_ble_eq_true rfl) (Nat.le_of_ble_eq_true rfl) (e_J29_getValue hS (p6 := p14) (p5 := p13) (p4 := p12) (o1 := o1) (k2 := ?_)) (fun _ _ h => h)
  show Rn G mX1_least 182 [(0, .ref a1), (1, .ref a2), (2, .ref a3), (3, .ref a4), (4, .ref a5), (5, .ref a6), (6, .int (nI m7)), (7, .ref a8), (8, .ref a9)] [.ref a11, .ref a6] w _
  refine r_castS (C := RX7) (TT := TX7) (NN := 3) rfl q1392 72 185 rfl rfl o2 ?_
  refine r_get (v := .ref a17) fl_X1_148_X7 73 188 rfl rfl o2 rfl ?_
  exact r_callV lkV_X1_280_J1 (C := RJ1) (TT := TJ1) (NN := 4) rfl o3 74 191 rfl rfl (by decide) [.ref a17] rfl rfl (Nat.le_of_ble_eq_true rfl) (Nat.le_of_ble_eq_true rfl) e4 (fun r w' h => Af.sub [0, 1, 2, 3, 4, 5, 6, 7, 8] rfl (k4 r w' h))
theorem e_X1_least_191 {G : Gm} {κ : Nat → Nat} {φ : Nat → Option Nat} (hS : GS G κ φ) {w : Wd} {Q : Rs → Wd → Prop} {a1 : Nat} {a2 : Nat} {a3 : Nat} {a4 : Nat} {a5 : Nat} {a6 : Nat} {m7 : Nat} {a8 : Nat} {a9 : Nat} {a10 : Nat} {a11 : Nat} {x12 : Int32} {m13 : Nat} (o1 : Lk G w a10 (.inl (nJ1, [.ref a11, .int 0, .int x12, .int (nI m13)]))) {Q2 : Rs → Wd → Prop} (e2 : Ev G mJ1_append_3 [.ref a10, .int 40] w Q2) (k2 : ∀ r w', Q2 r w' → Af G mX1_least 193 196 [(0, .ref a1), (1, .ref a2), (2, .ref a3), (3, .ref a4), (4, .ref a5), (5, .ref a6), (6, .int (nI m7)), (7, .ref a8), (8, .ref a9)] [] r w' Q) : Rn G mX1_least 191 [(0, .ref a1), (1, .ref a2), (2, .ref a3), (3, .ref a4), (4, .ref a5), (5, .ref a6), (6, .int (nI m7)), (7, .ref a8), (8, .ref a9)] [.ref a10] w Q := by
  refine r_bipush 75 193 rfl rfl db_40 ?_
  exact r_callV lkV_X1_49_J1 (C := RJ1) (TT := TJ1) (NN := 4) rfl o1 76 196 rfl rfl (by decide) [.int 40] rfl rfl (Nat.le_of_ble_eq_true rfl) (Nat.le_of_ble_eq_true rfl) e2 (fun r w' h => Af.sub [0, 1, 2, 3, 4, 5, 6, 7, 8] rfl (k2 r w' h))
theorem e_X1_least_196 {G : Gm} {κ : Nat → Nat} {φ : Nat → Option Nat} (hS : GS G κ φ) {w : Wd} {Q : Rs → Wd → Prop} {a1 : Nat} {a2 : Nat} {a3 : Nat} {a4 : Nat} {a5 : Nat} {a6 : Nat} {m7 : Nat} {a8 : Nat} {a9 : Nat} {a10 : Nat} {a11 : Nat} {a12 : Nat} {p13 : Option Nat} {p14 : Option Nat} {p15 : Option Nat} {x16 : Int32} {m17 : Nat} {a18 : Nat} {a19 : Nat} {x20 : Int32} {a21 : Nat} {m22 : Nat} (o1 : Lk G w a9 (.inl (nJ29, [.ref a11, .ref a12, va_rf p13, va_rf p14, va_rf p15, .int x16]))) (o2 : Lk G w a12 (.inl (nX7, [.int (nI m17), .ref a18, .ref a19]))) (o3 : Lk G w a19 (.inl (nJ6, [.int x20, .ref a21, .int (nI m22)]))) {Q4 : Rs → Wd → Prop} (e4 : Ev G mJ6_iterator [.ref a19] w Q4) (k4 : ∀ r w', Q4 r w' → Af G mX1_least 210 213 [(0, .ref a1), (1, .ref a2), (2, .ref a3), (3, .ref a4), (4, .ref a5), (5, .ref a6), (6, .int (nI m7)), (7, .ref a8), (8, .ref a9)] [] r w' Q) : Rn G mX1_least 196 [(0, .ref a1), (1, .ref a2), (2, .ref a3), (3, .ref a4), (4, .ref a5), (5, .ref a6), (6, .int (nI m7)), (7, .ref a8), (8, .ref a9)] [.ref a10] w Q := by
  refine r_pop 77 197 rfl rfl rfl ?_
  refine r_aload 78 199 8 rfl rfl rfl ?_
  refine r_callF lkF_X1_139_J29 (C := RJ29) (TT := TJ29) (NN := 6) rfl o1 79 204 rfl rfl (by decide) [] rfl rfl (Nat.le_of_ble_eq_true rfl) (Nat.le_of_ble_eq_true rfl) (e_J29_getValue hS (p6 := p15) (p5 := p14) (p4 := p13) (o1 := o1) (k2 := ?_)) (fun _ _ h => h)
  show Rn G mX1_least 204 [(0, .ref a1), (1, .ref a2), (2, .ref a3), (3, .ref a4), (4, .ref a5), (5, .ref a6), (6, .int (nI m7)), (7, .ref a8), (8, .ref a9)] [.ref a12] w _
  refine r_castS (C := RX7) (TT := TX7) (NN := 3) rfl q1392 80 207 rfl rfl o2 ?_
  refine r_get (v := .ref a19) fl_X1_155_X7 81 210 rfl rfl o2 rfl ?_
  exact r_callV lkV_X1_106_J6 (C := RJ6) (TT := TJ6) (NN := 3) rfl o3 82 213 rfl rfl (by decide) [] rfl rfl (Nat.le_of_ble_eq_true rfl) (Nat.le_of_ble_eq_true rfl) e4 (fun r w' h => Af.sub [0, 1, 2, 3, 4, 5, 6, 7, 8] rfl (k4 r w' h))
theorem e_X1_least_213 {G : Gm} {κ : Nat → Nat} {φ : Nat → Option Nat} (hS : GS G κ φ) {w : Wd} {Q : Rs → Wd → Prop} {a1 : Nat} {a2 : Nat} {a3 : Nat} {a4 : Nat} {a5 : Nat} {a6 : Nat} {m7 : Nat} {a8 : Nat} {a9 : Nat} {a10 : Nat} (k1 : Rn G mX1_least 215 [(0, .ref a1), (1, .ref a2), (2, .ref a3), (3, .ref a4), (4, .ref a5), (5, .ref a6), (6, .int (nI m7)), (7, .ref a8), (8, .ref a9), (9, .ref a10)] [] w Q) : Rn G mX1_least 213 [(0, .ref a1), (1, .ref a2), (2, .ref a3), (3, .ref a4), (4, .ref a5), (5, .ref a6), (6, .int (nI m7)), (7, .ref a8), (8, .ref a9)] [.ref a10] w Q := by
  refine r_astore (lv' := [(9, .ref a10), (0, .ref a1), (1, .ref a2), (2, .ref a3), (3, .ref a4), (4, .ref a5), (5, .ref a6), (6, .int (nI m7)), (7, .ref a8), (8, .ref a9)]) 83 215 rfl rfl (Nat.le_of_ble_eq_true rfl) rfl ?_
  exact r_sub [1, 2, 3, 4, 5, 6, 7, 8, 9, 0] rfl k1
theorem e_X1_least_215 {G : Gm} {κ : Nat → Nat} {φ : Nat → Option Nat} (hS : GS G κ φ) {w : Wd} {Q : Rs → Wd → Prop} {a1 : Nat} {a2 : Nat} {a3 : Nat} {a4 : Nat} {a5 : Nat} {a6 : Nat} {m7 : Nat} {a8 : Nat} {a9 : Nat} {a10 : Nat} {m11 : Nat} {x12 : Int32} {x13 : Int32} {a14 : Nat} (o1 : Lk G w a10 (.inl (nJ22, [.int (nI m11), .int x12, .int x13, .ref a14]))) {Q2 : Rs → Wd → Prop} (e2 : Ev G mJ22_hasNext [.ref a10] w Q2) (k2 : ∀ r w', Q2 r w' → Af G mX1_least 217 222 [(0, .ref a1), (1, .ref a2), (2, .ref a3), (3, .ref a4), (4, .ref a5), (5, .ref a6), (6, .int (nI m7)), (7, .ref a8), (8, .ref a9), (9, .ref a10)] [] r w' Q) : Rn G mX1_least 215 [(0, .ref a1), (1, .ref a2), (2, .ref a3), (3, .ref a4), (4, .ref a5), (5, .ref a6), (6, .int (nI m7)), (7, .ref a8), (8, .ref a9), (9, .ref a10)] [] w Q := by
  refine r_aload 84 217 9 rfl rfl rfl ?_
  exact r_callF lkF_X1_110_J22 (C := RJ22) (TT := TJ22) (NN := 4) rfl o1 85 222 rfl rfl (by decide) [] rfl rfl (Nat.le_of_ble_eq_true rfl) (Nat.le_of_ble_eq_true rfl) e2 (fun r w' h => Af.sub [0, 1, 2, 3, 4, 5, 6, 7, 8, 9] rfl (k2 r w' h))
theorem e_X1_least_222 {G : Gm} {κ : Nat → Nat} {φ : Nat → Option Nat} (hS : GS G κ φ) {w : Wd} {Q : Rs → Wd → Prop} {a1 : Nat} {a2 : Nat} {a3 : Nat} {a4 : Nat} {a5 : Nat} {a6 : Nat} {m7 : Nat} {a8 : Nat} {a9 : Nat} {a10 : Nat} {x11 : Int32} {a12 : Nat} {x13 : Int32} {m14 : Nat} {m15 : Nat} {x16 : Int32} {x17 : Int32} {a18 : Nat} (o1 : Lk G w a6 (.inl (nJ1, [.ref a12, .int 0, .int x13, .int (nI m14)]))) {Q2 : Rs → Wd → Prop} (e2 : x11 = 0 → Ev G mJ1_toString [.ref a6] w Q2) (k2 : x11 = 0 → ∀ r w', Q2 r w' → Af G mX1_least 261 264 [(0, .ref a1), (1, .ref a2), (2, .ref a3), (3, .ref a4), (4, .ref a5), (5, .ref a6), (6, .int (nI m7)), (7, .ref a8), (8, .ref a9)] [] r w' Q) (o3 : Lk G w a10 (.inl (nJ22, [.int (nI m15), .int x16, .int x17, .ref a18]))) {Q4 : Rs → Wd → Prop} (e4 : ¬ x11 = 0 → Ev G mJ22_next [.ref a10] w Q4) (k4 : ¬ x11 = 0 → ∀ r w', Q4 r w' → Af G mX1_least 227 232 [(0, .ref a1), (1, .ref a2), (2, .ref a3), (3, .ref a4), (4, .ref a5), (5, .ref a6), (6, .int (nI m7)), (7, .ref a8), (8, .ref a9), (9, .ref a10)] [] r w' Q) : Rn G mX1_least 222 [(0, .ref a1), (1, .ref a2), (2, .ref a3), (3, .ref a4), (4, .ref a5), (5, .ref a6), (6, .int (nI m7)), (7, .ref a8), (8, .ref a9), (9, .ref a10)] [.int x11] w Q := by
  refine r_if_eq 86 225 259 rfl rfl rfl (fun c1 => ?_) (fun c1 => ?_)
  · refine r_aload 101 261 5 rfl rfl rfl ?_
    exact r_callV lkV_X1_288_J1 (C := RJ1) (TT := TJ1) (NN := 4) rfl o1 102 264 rfl rfl (by decide) [] rfl rfl (Nat.le_of_ble_eq_true rfl) (Nat.le_of_ble_eq_true rfl) (e2 c1) (fun r w' h => Af.sub [0, 1, 2, 3, 4, 5, 6, 7, 8] rfl ((k2 c1) r w' h))
  · refine r_aload 87 227 9 rfl rfl rfl ?_
    exact r_callF lkF_X1_115_J22 (C := RJ22) (TT := TJ22) (NN := 4) rfl o3 88 232 rfl rfl (by decide) [] rfl rfl (Nat.le_of_ble_eq_true rfl) (Nat.le_of_ble_eq_true rfl) (e4 c1) (fun r w' h => Af.sub [0, 1, 2, 3, 4, 5, 6, 7, 8, 9] rfl ((k4 c1) r w' h))
theorem e_X1_least_264 {G : Gm} {κ : Nat → Nat} {φ : Nat → Option Nat} (hS : GS G κ φ) {w : Wd} {Q : Rs → Wd → Prop} {a1 : Nat} {a2 : Nat} {a3 : Nat} {a4 : Nat} {a5 : Nat} {a6 : Nat} {m7 : Nat} {a8 : Nat} {a9 : Nat} {a10 : Nat} (k1 : Rn G mX1_least 269 [(0, .ref a1), (1, .ref a2), (2, .ref a3), (3, .ref a4), (4, .ref a5), (5, .ref a6), (6, .int (nI m7)), (7, .ref a8), (8, .ref a9), (9, .ref a10), (10, .int 0)] [] w Q) : Rn G mX1_least 264 [(0, .ref a1), (1, .ref a2), (2, .ref a3), (3, .ref a4), (4, .ref a5), (5, .ref a6), (6, .int (nI m7)), (7, .ref a8), (8, .ref a9)] [.ref a10] w Q := by
  refine r_astore (lv' := [(9, .ref a10), (0, .ref a1), (1, .ref a2), (2, .ref a3), (3, .ref a4), (4, .ref a5), (5, .ref a6), (6, .int (nI m7)), (7, .ref a8), (8, .ref a9)]) 103 266 rfl rfl (Nat.le_of_ble_eq_true rfl) rfl ?_
  refine r_iconst 104 267 rfl rfl di_0 ?_
  refine r_istore (lv' := [(10, .int 0), (9, .ref a10), (0, .ref a1), (1, .ref a2), (2, .ref a3), (3, .ref a4), (4, .ref a5), (5, .ref a6), (6, .int (nI m7)), (7, .ref a8), (8, .ref a9)]) 105 269 rfl rfl (Nat.le_of_ble_eq_true rfl) rfl ?_
  exact r_sub [2, 3, 4, 5, 6, 7, 8, 9, 10, 1, 0] rfl k1
theorem e_X1_least_232 {G : Gm} {κ : Nat → Nat} {φ : Nat → Option Nat} (hS : GS G κ φ) {w : Wd} {Q : Rs → Wd → Prop} {a1 : Nat} {a2 : Nat} {a3 : Nat} {a4 : Nat} {a5 : Nat} {a6 : Nat} {m7 : Nat} {a8 : Nat} {a9 : Nat} {a10 : Nat} {a11 : Nat} {a12 : Nat} {a13 : Nat} {a14 : Nat} (o1 : Lk G w a11 (.inl (nX8, [.ref a12, .ref a13, .ref a14]))) {Q2 : Rs → Wd → Prop} (e2 : Ev G mX8_moved [.ref a11, .ref a3] w Q2) (k2 : ∀ r w', Q2 r w' → Af G mX1_least 240 243 [(0, .ref a1), (1, .ref a2), (2, .ref a3), (3, .ref a4), (4, .ref a5), (5, .ref a6), (6, .int (nI m7)), (7, .ref a8), (8, .ref a9), (9, .ref a10)] [] r w' Q) : Rn G mX1_least 232 [(0, .ref a1), (1, .ref a2), (2, .ref a3), (3, .ref a4), (4, .ref a5), (5, .ref a6), (6, .int (nI m7)), (7, .ref a8), (8, .ref a9), (9, .ref a10)] [.ref a11] w Q := by
  refine r_castS (C := RX8) (TT := TX8) (NN := 3) rfl q1690 89 235 rfl rfl o1 ?_
  refine r_astore (lv' := [(10, .ref a11), (0, .ref a1), (1, .ref a2), (2, .ref a3), (3, .ref a4), (4, .ref a5), (5, .ref a6), (6, .int (nI m7)), (7, .ref a8), (8, .ref a9), (9, .ref a10)]) 90 237 rfl rfl (Nat.le_of_ble_eq_true rfl) rfl ?_
  refine r_aload 91 239 0 rfl rfl rfl ?_
  refine r_aload_n 92 240 3 rfl rfl rfl ?_
  exact r_callV lkV_X1_283_X8 (C := RX8) (TT := TX8) (NN := 3) rfl o1 93 243 rfl rfl (by decide) [.ref a3] rfl rfl (Nat.le_of_ble_eq_true rfl) (Nat.le_of_ble_eq_true rfl) e2 (fun r w' h => Af.sub [1, 2, 3, 4, 5, 6, 7, 8, 9, 10] rfl (k2 r w' h))
theorem e_X1_least_269 {G : Gm} {κ : Nat → Nat} {φ : Nat → Option Nat} (hS : GS G κ φ) {w : Wd} {Q : Rs → Wd → Prop} {a1 : Nat} {a2 : Nat} {a3 : Nat} {a4 : Nat} {a5 : Nat} {a6 : Nat} {m7 : Nat} {a8 : Nat} {a9 : Nat} {a10 : Nat} {m11 : Nat} {x12 : Int32} {a13 : Nat} {m14 : Nat} {a15 : Nat} {a16 : Nat} {p17 : Option Nat} {p18 : Option Nat} {p19 : Option Nat} {x20 : Int32} {x21 : Int32} {m22 : Nat} {x23 : Int32} {a24 : Nat} {m25 : Nat} {n26 : Nat} {g27 : Nat → Option Nat} {a28 : Nat} {x29 : Int32} {n30 : Nat} {g31 : Nat → Int32} {n32 : Nat} {g33 : Nat → Option Nat} {a34 : Nat} {a35 : Nat} {x36 : Int32} {x37 : Int32} (o1 : Lk G w a4 (.inl (nJ6, [.int x12, .ref a13, .int (nI m14)]))) (bd2 : m11 < 2 ^ 31) (bd3 : m14 < 2 ^ 31) (o4 : Lk G w a9 (.inl (nJ29, [.ref a15, .ref a16, va_rf p17, va_rf p18, va_rf p19, .int x20]))) (o5 : Lk G w a15 (.inl (nJ20, [.int x21]))) (q6 : m14 ≤ m11 → ¬ m11 = m14 → x21 = nI m22) (o7 : Lk G w a5 (.inl (nJ6, [.int x23, .ref a24, .int (nI m25)]))) (o8 : Lk G w a24 (arR "java/lang/Object" n26 g27)) (b9 : m14 ≤ m11 → ¬ m11 = m14 → m25 < 2 ^ 31) (f10 : m14 ≤ m11 → ¬ m11 = m14 → m11 < m25) (b11 : m14 ≤ m11 → ¬ m11 = m14 → m11 < n26) (b12 : m14 ≤ m11 → ¬ m11 = m14 → n26 < 2 ^ 31) (q13 : m14 ≤ m11 → ¬ m11 = m14 → (g27 m11) = some a28) (o14 : Lk G w a28 (.inl (nJ20, [.int x29]))) (o15 : w.1 a3 = some (arI .int n30 g31)) (b16 : m14 ≤ m11 → ¬ m11 = m14 → m22 < n30) (bd17 : n30 < 2 ^ 31) (k18 : m14 ≤ m11 → ¬ m11 = m14 → Rn G mX1_least 125 [(0, .ref a1), (1, .ref a2), (2, .ref a3), (3, .ref a4), (4, .ref a5), (5, .ref a6), (6, .int (nI m7)), (7, .ref a8)] [] (wset w a3 (arI .int n30 (upF g31 m22 x29))) Q) {Q19 : Rs → Wd → Prop} (e19 : m14 ≤ m11 → m11 = m14 → Ev G mJ6_add [.ref a4, .ref a10] w Q19) (k19 : m14 ≤ m11 → m11 = m14 → ∀ r w', Q19 r w' → Af G mX1_least 313 316 [(0, .ref a1), (1, .ref a2), (2, .ref a3), (3, .ref a4), (4, .ref a5), (5, .ref a6), (6, .int (nI m7)), (7, .ref a8), (8, .ref a9), (10, .int (nI m11))] [] r w' Q) (o20 : Lk G w a13 (arR "java/lang/Object" n32 g33)) (b21 : ¬ m14 ≤ m11 → m11 < n32) (b22 : ¬ m14 ≤ m11 → n32 < 2 ^ 31) (q23 : ¬ m14 ≤ m11 → (g33 m11) = some a34) (o24 : Lk G w a34 (.inl (nJ2, [.ref a35, .int 0, .int x36, .int x37]))) {Q25 : Rs → Wd → Prop} (e25 : ¬ m14 ≤ m11 → Ev G mJ2_equals [.ref a34, .ref a10] w Q25) (k25 : ¬ m14 ≤ m11 → ∀ r w', Q25 r w' → Af G mX1_least 289 292 [(0, .ref a1), (1, .ref a2), (2, .ref a3), (3, .ref a4), (4, .ref a5), (5, .ref a6), (6, .int (nI m7)), (7, .ref a8), (8, .ref a9), (9, .ref a10), (10, .int (nI m11))] [] r w' Q) : Rn G mX1_least 269 [(0, .ref a1), (1, .ref a2), (2, .ref a3), (3, .ref a4), (4, .ref a5), (5, .ref a6), (6, .int (nI m7)), (7, .ref a8), (8, .ref a9), (9, .ref a10), (10, .int (nI m11))] [] w Q := by
  refine r_iload 106 271 10 rfl rfl rfl ?_
  refine r_aload_n 107 272 3 rfl rfl rfl ?_
  refine r_callV lkV_X1_84_J6 (C := RJ6) (TT := TJ6) (NN := 3) rfl o1 108 275 rfl rfl (by decide) [] rfl rfl (Nat.le_of_ble_eq_true rfl) (Nat.le_of_ble_eq_true rfl) (e_J6_size hS (m4 := m14) (o1 := o1) (k2 := ?_)) (fun _ _ h => h)
  show Rn G mX1_least 275 [(0, .ref a1), (1, .ref a2), (2, .ref a3), (3, .ref a4), (4, .ref a5), (5, .ref a6), (6, .int (nI m7)), (7, .ref a8), (8, .ref a9), (9, .ref a10), (10, .int (nI m11))] [.int (nI m14), .int (nI m11)] w _
  refine y_icmp_ge (a := m11) (b := m14) bd2 bd3 109 278 301 rfl rfl rfl (fun c1 => ?_) (fun c1 => ?_)
  · refine r_iload 119 303 10 rfl rfl rfl ?_
    refine r_aload_n 120 304 3 rfl rfl rfl ?_
    refine r_callV lkV_X1_84_J6 (C := RJ6) (TT := TJ6) (NN := 3) rfl o1 121 307 rfl rfl (by decide) [] rfl rfl (Nat.le_of_ble_eq_true rfl) (Nat.le_of_ble_eq_true rfl) (e_J6_size hS (m4 := m14) (o1 := o1) (k2 := ?_)) (fun _ _ h => h)
    show Rn G mX1_least 307 [(0, .ref a1), (1, .ref a2), (2, .ref a3), (3, .ref a4), (4, .ref a5), (5, .ref a6), (6, .int (nI m7)), (7, .ref a8), (8, .ref a9), (9, .ref a10), (10, .int (nI m11))] [.int (nI m14), .int (nI m11)] w _
    refine y_icmp_ne (a := m11) (b := m14) (by omega) (by omega) 122 310 333 rfl rfl rfl (fun c2 => ?_) (fun c2 => ?_)
    · refine r_aload_n 133 334 2 rfl rfl rfl ?_
      refine r_aload 134 336 8 rfl rfl rfl ?_
      refine r_callF lkF_X1_175_J29 (C := RJ29) (TT := TJ29) (NN := 6) rfl o4 135 341 rfl rfl (by decide) [] rfl rfl (Nat.le_of_ble_eq_true rfl) (Nat.le_of_ble_eq_true rfl) (e_J29_getKey hS (p6 := p19) (p5 := p18) (p4 := p17) (o1 := o4) (k2 := ?_)) (fun _ _ h => h)
      show Rn G mX1_least 341 [(0, .ref a1), (1, .ref a2), (2, .ref a3), (3, .ref a4), (4, .ref a5), (5, .ref a6), (6, .int (nI m7)), (7, .ref a8), (8, .ref a9), (9, .ref a10), (10, .int (nI m11))] [.ref a15, .ref a3] w _
      refine r_castS (C := RJ20) (TT := TJ20) (NN := 1) rfl q1411 136 344 rfl rfl o5 ?_
      refine r_callV lkV_X1_123_J20 (C := RJ20) (TT := TJ20) (NN := 1) rfl o5 137 347 rfl rfl (by decide) [] rfl rfl (Nat.le_of_ble_eq_true rfl) (Nat.le_of_ble_eq_true rfl) (e_J20_intValue hS (o1 := o5) (k2 := ?_)) (fun _ _ h => h)
      show Rn G mX1_least 347 [(0, .ref a1), (1, .ref a2), (2, .ref a3), (3, .ref a4), (4, .ref a5), (5, .ref a6), (6, .int (nI m7)), (7, .ref a8), (8, .ref a9), (9, .ref a10), (10, .int (nI m11))] [.int x21, .ref a3] w _
      refine x_eq (q6 c1 c2) ?_
      refine r_aload 138 349 4 rfl rfl rfl ?_
      refine r_iload 139 351 10 rfl rfl rfl ?_
      refine r_callV lkV_X1_170_J6 (C := RJ6) (TT := TJ6) (NN := 3) rfl o7 140 354 rfl rfl (by decide) [.int (nI m11)] rfl rfl (Nat.le_of_ble_eq_true rfl) (Nat.le_of_ble_eq_true rfl) (e_J6_get hS (a8 := a28) (m5 := m25) (m2 := m11) (o1 := o7) (b2 := (by omega)) (b3 := (b9 c1 c2)) (f4 := (f10 c1 c2)) (o5 := o8) (b6 := (b11 c1 c2)) (b7 := (b12 c1 c2)) (q8 := (q13 c1 c2)) (k9 := ?_)) (fun _ _ h => h)
      show Rn G mX1_least 354 [(0, .ref a1), (1, .ref a2), (2, .ref a3), (3, .ref a4), (4, .ref a5), (5, .ref a6), (6, .int (nI m7)), (7, .ref a8), (8, .ref a9), (9, .ref a10), (10, .int (nI m11))] [.ref a28, .int (nI m22), .ref a3] w _
      refine r_castS (C := RJ20) (TT := TJ20) (NN := 1) rfl q1411 141 357 rfl rfl o14 ?_
      refine r_callV lkV_X1_123_J20 (C := RJ20) (TT := TJ20) (NN := 1) rfl o14 142 360 rfl rfl (by decide) [] rfl rfl (Nat.le_of_ble_eq_true rfl) (Nat.le_of_ble_eq_true rfl) (e_J20_intValue hS (o1 := o14) (k2 := ?_)) (fun _ _ h => h)
      show Rn G mX1_least 360 [(0, .ref a1), (1, .ref a2), (2, .ref a3), (3, .ref a4), (4, .ref a5), (5, .ref a6), (6, .int (nI m7)), (7, .ref a8), (8, .ref a9), (9, .ref a10), (10, .int (nI m11))] [.int x29, .int (nI m22), .ref a3] w _
      refine y_iast (i := m22) 143 361 rfl rfl o15 (b16 c1 c2) bd17 ?_
      show Rn G mX1_least 361 [(0, .ref a1), (1, .ref a2), (2, .ref a3), (3, .ref a4), (4, .ref a5), (5, .ref a6), (6, .int (nI m7)), (7, .ref a8), (8, .ref a9), (9, .ref a10), (10, .int (nI m11))] [] (wset w a3 (arI .int n30 (upF g31 m22 x29))) _
      refine r_goto 144 125 rfl rfl ?_
      exact r_sub [0, 1, 2, 3, 4, 5, 6, 7] rfl (k18 c1 c2)
    · refine r_aload_n 123 311 3 rfl rfl rfl ?_
      refine r_aload 124 313 9 rfl rfl rfl ?_
      exact r_callV lkV_X1_74_J6 (C := RJ6) (TT := TJ6) (NN := 3) rfl o1 125 316 rfl rfl (by decide) [.ref a10] rfl rfl (Nat.le_of_ble_eq_true rfl) (Nat.le_of_ble_eq_true rfl) (e19 c1 c2) (fun r w' h => Af.sub [0, 1, 2, 3, 4, 5, 6, 7, 8, 10] rfl ((k19 c1 c2) r w' h))
  · refine r_aload_n 110 279 3 rfl rfl rfl ?_
    refine r_iload 111 281 10 rfl rfl rfl ?_
    refine r_callV lkV_X1_170_J6 (C := RJ6) (TT := TJ6) (NN := 3) rfl o1 112 284 rfl rfl (by decide) [.int (nI m11)] rfl rfl (Nat.le_of_ble_eq_true rfl) (Nat.le_of_ble_eq_true rfl) (e_J6_get hS (a8 := a34) (m5 := m14) (m2 := m11) (o1 := o1) (b2 := (by omega)) (b3 := (by omega)) (f4 := (by omega)) (o5 := o20) (b6 := (b21 c1)) (b7 := (b22 c1)) (q8 := (q23 c1)) (k9 := ?_)) (fun _ _ h => h)
    show Rn G mX1_least 284 [(0, .ref a1), (1, .ref a2), (2, .ref a3), (3, .ref a4), (4, .ref a5), (5, .ref a6), (6, .int (nI m7)), (7, .ref a8), (8, .ref a9), (9, .ref a10), (10, .int (nI m11))] [.ref a34] w _
    refine r_castS (C := RJ2) (TT := TJ2) (NN := 4) rfl q1702 113 287 rfl rfl o24 ?_
    refine r_aload 114 289 9 rfl rfl rfl ?_
    exact r_callV lkV_X1_181_J2 (C := RJ2) (TT := TJ2) (NN := 4) rfl o24 115 292 rfl rfl (by decide) [.ref a10] rfl rfl (Nat.le_of_ble_eq_true rfl) (Nat.le_of_ble_eq_true rfl) (e25 c1) (fun r w' h => Af.sub [0, 1, 2, 3, 4, 5, 6, 7, 8, 9, 10] rfl ((k25 c1) r w' h))
theorem e_X1_least_243 {G : Gm} {κ : Nat → Nat} {φ : Nat → Option Nat} (hS : GS G κ φ) {w : Wd} {Q : Rs → Wd → Prop} {a1 : Nat} {a2 : Nat} {a3 : Nat} {a4 : Nat} {a5 : Nat} {a6 : Nat} {m7 : Nat} {a8 : Nat} {a9 : Nat} {a10 : Nat} {a11 : Nat} {a12 : Nat} {a13 : Nat} {a14 : Nat} (o1 : Lk G w a11 (.inl (nX8, [.ref a12, .ref a13, .ref a14]))) {Q2 : Rs → Wd → Prop} (e2 : Ev G mX8_write [.ref a11, .ref a6] w Q2) (k2 : ∀ r w', Q2 r w' → Af G mX1_least 245 248 [(0, .ref a1), (1, .ref a2), (2, .ref a3), (3, .ref a4), (4, .ref a5), (5, .ref a6), (6, .int (nI m7)), (7, .ref a8), (8, .ref a9), (9, .ref a10)] [] r w' Q) : Rn G mX1_least 243 [(0, .ref a1), (1, .ref a2), (2, .ref a3), (3, .ref a4), (4, .ref a5), (5, .ref a6), (6, .int (nI m7)), (7, .ref a8), (8, .ref a9), (9, .ref a10)] [.ref a11] w Q := by
  refine r_aload 94 245 5 rfl rfl rfl ?_
  exact r_callV lkV_X1_287_X8 (C := RX8) (TT := TX8) (NN := 3) rfl o1 95 248 rfl rfl (by decide) [.ref a6] rfl rfl (Nat.le_of_ble_eq_true rfl) (Nat.le_of_ble_eq_true rfl) e2 (fun r w' h => Af.sub [0, 1, 2, 3, 4, 5, 6, 7, 8, 9] rfl (k2 r w' h))
theorem e_X1_least_316 {G : Gm} {κ : Nat → Nat} {φ : Nat → Option Nat} (hS : GS G κ φ) {w : Wd} {Q : Rs → Wd → Prop} {a1 : Nat} {a2 : Nat} {a3 : Nat} {a4 : Nat} {a5 : Nat} {a6 : Nat} {m7 : Nat} {a8 : Nat} {a9 : Nat} {m10 : Nat} {x11 : Int32} {a12 : Nat} {a13 : Nat} {p14 : Option Nat} {p15 : Option Nat} {p16 : Option Nat} {x17 : Int32} {x18 : Int32} {x19 : Int32} {a20 : Nat} {m21 : Nat} (o1 : Lk G w a9 (.inl (nJ29, [.ref a12, .ref a13, va_rf p14, va_rf p15, va_rf p16, .int x17]))) (o2 : Lk G w a12 (.inl (nJ20, [.int x18]))) (o3 : Lk G w a5 (.inl (nJ6, [.int x19, .ref a20, .int (nI m21)]))) {Q4 : Rs → Wd → Prop} (e4 : Ev G mJ6_add [.ref a5, .ref a12] w Q4) (k4 : ∀ r w', Q4 r w' → Af G mX1_least 329 332 [(0, .ref a1), (1, .ref a2), (2, .ref a3), (3, .ref a4), (4, .ref a5), (5, .ref a6), (6, .int (nI m7)), (7, .ref a8), (8, .ref a9), (10, .int (nI m10))] [] r w' Q) : Rn G mX1_least 316 [(0, .ref a1), (1, .ref a2), (2, .ref a3), (3, .ref a4), (4, .ref a5), (5, .ref a6), (6, .int (nI m7)), (7, .ref a8), (8, .ref a9), (10, .int (nI m10))] [.int x11] w Q := by
  refine r_pop 126 317 rfl rfl rfl ?_
  refine r_aload 127 319 4 rfl rfl rfl ?_
  refine r_aload 128 321 8 rfl rfl rfl ?_
  refine r_callF lkF_X1_175_J29 (C := RJ29) (TT := TJ29) (NN := 6) rfl o1 129 326 rfl rfl (by decide) [] rfl rfl (Nat.le_of_ble_eq_true rfl) (Nat.le_of_ble_eq_true rfl) (e_J29_getKey hS (p6 := p16) (p5 := p15) (p4 := p14) (o1 := o1) (k2 := ?_)) (fun _ _ h => h)
  show Rn G mX1_least 326 [(0, .ref a1), (1, .ref a2), (2, .ref a3), (3, .ref a4), (4, .ref a5), (5, .ref a6), (6, .int (nI m7)), (7, .ref a8), (8, .ref a9), (10, .int (nI m10))] [.ref a12, .ref a5] w _
  refine r_castS (C := RJ20) (TT := TJ20) (NN := 1) rfl q1411 130 329 rfl rfl o2 ?_
  exact r_callV lkV_X1_74_J6 (C := RJ6) (TT := TJ6) (NN := 3) rfl o3 131 332 rfl rfl (by decide) [.ref a12] rfl rfl (Nat.le_of_ble_eq_true rfl) (Nat.le_of_ble_eq_true rfl) e4 (fun r w' h => Af.sub [0, 1, 2, 3, 4, 5, 6, 7, 8, 9] rfl (k4 r w' h))
theorem e_X1_least_292 {G : Gm} {κ : Nat → Nat} {φ : Nat → Option Nat} (hS : GS G κ φ) {w : Wd} {Q : Rs → Wd → Prop} {a1 : Nat} {a2 : Nat} {a3 : Nat} {a4 : Nat} {a5 : Nat} {a6 : Nat} {m7 : Nat} {a8 : Nat} {a9 : Nat} {a10 : Nat} {m11 : Nat} {x12 : Int32} {x13 : Int32} {a14 : Nat} {m15 : Nat} {a16 : Nat} {a17 : Nat} {p18 : Option Nat} {p19 : Option Nat} {p20 : Option Nat} {x21 : Int32} {x22 : Int32} {m23 : Nat} {x24 : Int32} {a25 : Nat} {m26 : Nat} {n27 : Nat} {g28 : Nat → Option Nat} {a29 : Nat} {x30 : Int32} {n31 : Nat} {g32 : Nat → Int32} (o1 : Lk G w a4 (.inl (nJ6, [.int x13, .ref a14, .int (nI m15)]))) (bd2 : m11 < 2 ^ 31) (bd3 : m15 < 2 ^ 31) (o4 : Lk G w a9 (.inl (nJ29, [.ref a16, .ref a17, va_rf p18, va_rf p19, va_rf p20, .int x21]))) (o5 : Lk G w a16 (.inl (nJ20, [.int x22]))) (q6 : ¬ x12 = 0 → ¬ m11 = m15 → x22 = nI m23) (o7 : Lk G w a5 (.inl (nJ6, [.int x24, .ref a25, .int (nI m26)]))) (o8 : Lk G w a25 (arR "java/lang/Object" n27 g28)) (b9 : ¬ x12 = 0 → ¬ m11 = m15 → m26 < 2 ^ 31) (f10 : ¬ x12 = 0 → ¬ m11 = m15 → m11 < m26) (b11 : ¬ x12 = 0 → ¬ m11 = m15 → m11 < n27) (b12 : ¬ x12 = 0 → ¬ m11 = m15 → n27 < 2 ^ 31) (q13 : ¬ x12 = 0 → ¬ m11 = m15 → (g28 m11) = some a29) (o14 : Lk G w a29 (.inl (nJ20, [.int x30]))) (o15 : w.1 a3 = some (arI .int n31 g32)) (b16 : ¬ x12 = 0 → ¬ m11 = m15 → m23 < n31) (bd17 : n31 < 2 ^ 31) (k18 : ¬ x12 = 0 → ¬ m11 = m15 → Rn G mX1_least 125 [(0, .ref a1), (1, .ref a2), (2, .ref a3), (3, .ref a4), (4, .ref a5), (5, .ref a6), (6, .int (nI m7)), (7, .ref a8)] [] (wset w a3 (arI .int n31 (upF g32 m23 x30))) Q) {Q19 : Rs → Wd → Prop} (e19 : ¬ x12 = 0 → m11 = m15 → Ev G mJ6_add [.ref a4, .ref a10] w Q19) (k19 : ¬ x12 = 0 → m11 = m15 → ∀ r w', Q19 r w' → Af G mX1_least 313 316 [(0, .ref a1), (1, .ref a2), (2, .ref a3), (3, .ref a4), (4, .ref a5), (5, .ref a6), (6, .int (nI m7)), (7, .ref a8), (8, .ref a9), (10, .int (nI m11))] [] r w' Q) (k20 : x12 = 0 → Rn G mX1_least 269 [(0, .ref a1), (1, .ref a2), (2, .ref a3), (3, .ref a4), (4, .ref a5), (5, .ref a6), (6, .int (nI m7)), (7, .ref a8), (8, .ref a9), (9, .ref a10), (10, .int (nI (m11 + 1)))] [] w Q) : Rn G mX1_least 292 [(0, .ref a1), (1, .ref a2), (2, .ref a3), (3, .ref a4), (4, .ref a5), (5, .ref a6), (6, .int (nI m7)), (7, .ref a8), (8, .ref a9), (9, .ref a10), (10, .int (nI m11))] [.int x12] w Q := by
  refine r_if_ne 116 295 301 rfl rfl rfl (fun c1 => ?_) (fun c1 => ?_)
  · refine r_iload 119 303 10 rfl rfl rfl ?_
    refine r_aload_n 120 304 3 rfl rfl rfl ?_
    refine r_callV lkV_X1_84_J6 (C := RJ6) (TT := TJ6) (NN := 3) rfl o1 121 307 rfl rfl (by decide) [] rfl rfl (Nat.le_of_ble_eq_true rfl) (Nat.le_of_ble_eq_true rfl) (e_J6_size hS (m4 := m15) (o1 := o1) (k2 := ?_)) (fun _ _ h => h)
    show Rn G mX1_least 307 [(0, .ref a1), (1, .ref a2), (2, .ref a3), (3, .ref a4), (4, .ref a5), (5, .ref a6), (6, .int (nI m7)), (7, .ref a8), (8, .ref a9), (9, .ref a10), (10, .int (nI m11))] [.int (nI m15), .int (nI m11)] w _
    refine y_icmp_ne (a := m11) (b := m15) bd2 bd3 122 310 333 rfl rfl rfl (fun c2 => ?_) (fun c2 => ?_)
    · refine r_aload_n 133 334 2 rfl rfl rfl ?_
      refine r_aload 134 336 8 rfl rfl rfl ?_
      refine r_callF lkF_X1_175_J29 (C := RJ29) (TT := TJ29) (NN := 6) rfl o4 135 341 rfl rfl (by decide) [] rfl rfl (Nat.le_of_ble_eq_true rfl) (Nat.le_of_ble_eq_true rfl) (e_J29_getKey hS (p6 := p20) (p5 := p19) (p4 := p18) (o1 := o4) (k2 := ?_)) (fun _ _ h => h)
      show Rn G mX1_least 341 [(0, .ref a1), (1, .ref a2), (2, .ref a3), (3, .ref a4), (4, .ref a5), (5, .ref a6), (6, .int (nI m7)), (7, .ref a8), (8, .ref a9), (9, .ref a10), (10, .int (nI m11))] [.ref a16, .ref a3] w _
      refine r_castS (C := RJ20) (TT := TJ20) (NN := 1) rfl q1411 136 344 rfl rfl o5 ?_
      refine r_callV lkV_X1_123_J20 (C := RJ20) (TT := TJ20) (NN := 1) rfl o5 137 347 rfl rfl (by decide) [] rfl rfl (Nat.le_of_ble_eq_true rfl) (Nat.le_of_ble_eq_true rfl) (e_J20_intValue hS (o1 := o5) (k2 := ?_)) (fun _ _ h => h)
      show Rn G mX1_least 347 [(0, .ref a1), (1, .ref a2), (2, .ref a3), (3, .ref a4), (4, .ref a5), (5, .ref a6), (6, .int (nI m7)), (7, .ref a8), (8, .ref a9), (9, .ref a10), (10, .int (nI m11))] [.int x22, .ref a3] w _
      refine x_eq (q6 c1 c2) ?_
      refine r_aload 138 349 4 rfl rfl rfl ?_
      refine r_iload 139 351 10 rfl rfl rfl ?_
      refine r_callV lkV_X1_170_J6 (C := RJ6) (TT := TJ6) (NN := 3) rfl o7 140 354 rfl rfl (by decide) [.int (nI m11)] rfl rfl (Nat.le_of_ble_eq_true rfl) (Nat.le_of_ble_eq_true rfl) (e_J6_get hS (a8 := a29) (m5 := m26) (m2 := m11) (o1 := o7) (b2 := (by omega)) (b3 := (b9 c1 c2)) (f4 := (f10 c1 c2)) (o5 := o8) (b6 := (b11 c1 c2)) (b7 := (b12 c1 c2)) (q8 := (q13 c1 c2)) (k9 := ?_)) (fun _ _ h => h)
      show Rn G mX1_least 354 [(0, .ref a1), (1, .ref a2), (2, .ref a3), (3, .ref a4), (4, .ref a5), (5, .ref a6), (6, .int (nI m7)), (7, .ref a8), (8, .ref a9), (9, .ref a10), (10, .int (nI m11))] [.ref a29, .int (nI m23), .ref a3] w _
      refine r_castS (C := RJ20) (TT := TJ20) (NN := 1) rfl q1411 141 357 rfl rfl o14 ?_
      refine r_callV lkV_X1_123_J20 (C := RJ20) (TT := TJ20) (NN := 1) rfl o14 142 360 rfl rfl (by decide) [] rfl rfl (Nat.le_of_ble_eq_true rfl) (Nat.le_of_ble_eq_true rfl) (e_J20_intValue hS (o1 := o14) (k2 := ?_)) (fun _ _ h => h)
      show Rn G mX1_least 360 [(0, .ref a1), (1, .ref a2), (2, .ref a3), (3, .ref a4), (4, .ref a5), (5, .ref a6), (6, .int (nI m7)), (7, .ref a8), (8, .ref a9), (9, .ref a10), (10, .int (nI m11))] [.int x30, .int (nI m23), .ref a3] w _
      refine y_iast (i := m23) 143 361 rfl rfl o15 (b16 c1 c2) bd17 ?_
      show Rn G mX1_least 361 [(0, .ref a1), (1, .ref a2), (2, .ref a3), (3, .ref a4), (4, .ref a5), (5, .ref a6), (6, .int (nI m7)), (7, .ref a8), (8, .ref a9), (9, .ref a10), (10, .int (nI m11))] [] (wset w a3 (arI .int n31 (upF g32 m23 x30))) _
      refine r_goto 144 125 rfl rfl ?_
      exact r_sub [0, 1, 2, 3, 4, 5, 6, 7] rfl (k18 c1 c2)
    · refine r_aload_n 123 311 3 rfl rfl rfl ?_
      refine r_aload 124 313 9 rfl rfl rfl ?_
      exact r_callV lkV_X1_74_J6 (C := RJ6) (TT := TJ6) (NN := 3) rfl o1 125 316 rfl rfl (by decide) [.ref a10] rfl rfl (Nat.le_of_ble_eq_true rfl) (Nat.le_of_ble_eq_true rfl) (e19 c1 c2) (fun r w' h => Af.sub [0, 1, 2, 3, 4, 5, 6, 7, 8, 10] rfl ((k19 c1 c2) r w' h))
  · refine r_iinc (v := (nI (m11 + 1))) (lv' := [(10, .int (nI (m11 + 1))), (0, .ref a1), (1, .ref a2), (2, .ref a3), (3, .ref a4), (4, .ref a5), (5, .ref a6), (6, .int (nI m7)), (7, .ref a8), (8, .ref a9), (9, .ref a10)]) 117 298 10 rfl rfl rfl (by rw [di_1]; exact nI_add _ _) (Nat.le_of_ble_eq_true rfl) rfl ?_
    refine r_goto 118 269 rfl rfl ?_
    exact r_sub [1, 2, 3, 4, 5, 6, 7, 8, 9, 10, 0] rfl (k20 c1)
theorem e_X1_least_248 {G : Gm} {κ : Nat → Nat} {φ : Nat → Option Nat} (hS : GS G κ φ) {w : Wd} {Q : Rs → Wd → Prop} {a1 : Nat} {a2 : Nat} {a3 : Nat} {a4 : Nat} {a5 : Nat} {a6 : Nat} {m7 : Nat} {a8 : Nat} {a9 : Nat} {a10 : Nat} {a11 : Nat} {x12 : Int32} {m13 : Nat} (o1 : Lk G w a6 (.inl (nJ1, [.ref a11, .int 0, .int x12, .int (nI m13)]))) {Q2 : Rs → Wd → Prop} (e2 : Ev G mJ1_append_3 [.ref a6, .int 44] w Q2) (k2 : ∀ r w', Q2 r w' → Af G mX1_least 252 255 [(0, .ref a1), (1, .ref a2), (2, .ref a3), (3, .ref a4), (4, .ref a5), (5, .ref a6), (6, .int (nI m7)), (7, .ref a8), (8, .ref a9), (9, .ref a10)] [] r w' Q) : Rn G mX1_least 248 [(0, .ref a1), (1, .ref a2), (2, .ref a3), (3, .ref a4), (4, .ref a5), (5, .ref a6), (6, .int (nI m7)), (7, .ref a8), (8, .ref a9), (9, .ref a10)] [] w Q := by
  refine r_aload 96 250 5 rfl rfl rfl ?_
  refine r_bipush 97 252 rfl rfl db_44 ?_
  exact r_callV lkV_X1_49_J1 (C := RJ1) (TT := TJ1) (NN := 4) rfl o1 98 255 rfl rfl (by decide) [.int 44] rfl rfl (Nat.le_of_ble_eq_true rfl) (Nat.le_of_ble_eq_true rfl) e2 (fun r w' h => Af.sub [0, 1, 2, 3, 4, 5, 6, 7, 8, 9] rfl (k2 r w' h))
theorem e_X1_least_332 {G : Gm} {κ : Nat → Nat} {φ : Nat → Option Nat} (hS : GS G κ φ) {w : Wd} {Q : Rs → Wd → Prop} {a1 : Nat} {a2 : Nat} {a3 : Nat} {a4 : Nat} {a5 : Nat} {a6 : Nat} {m7 : Nat} {a8 : Nat} {a9 : Nat} {m10 : Nat} {x11 : Int32} {a12 : Nat} {a13 : Nat} {p14 : Option Nat} {p15 : Option Nat} {p16 : Option Nat} {x17 : Int32} {x18 : Int32} {m19 : Nat} {x20 : Int32} {a21 : Nat} {m22 : Nat} {n23 : Nat} {g24 : Nat → Option Nat} {a25 : Nat} {x26 : Int32} {n27 : Nat} {g28 : Nat → Int32} (o1 : Lk G w a9 (.inl (nJ29, [.ref a12, .ref a13, va_rf p14, va_rf p15, va_rf p16, .int x17]))) (o2 : Lk G w a12 (.inl (nJ20, [.int x18]))) (q3 : x18 = nI m19) (o4 : Lk G w a5 (.inl (nJ6, [.int x20, .ref a21, .int (nI m22)]))) (o5 : Lk G w a21 (arR "java/lang/Object" n23 g24)) (b6 : m10 < 2 ^ 31) (b7 : m22 < 2 ^ 31) (f8 : m10 < m22) (b9 : m10 < n23) (b10 : n23 < 2 ^ 31) (q11 : (g24 m10) = some a25) (o12 : Lk G w a25 (.inl (nJ20, [.int x26]))) (o13 : w.1 a3 = some (arI .int n27 g28)) (b14 : m19 < n27) (bd15 : n27 < 2 ^ 31) (k16 : Rn G mX1_least 125 [(0, .ref a1), (1, .ref a2), (2, .ref a3), (3, .ref a4), (4, .ref a5), (5, .ref a6), (6, .int (nI m7)), (7, .ref a8)] [] (wset w a3 (arI .int n27 (upF g28 m19 x26))) Q) : Rn G mX1_least 332 [(0, .ref a1), (1, .ref a2), (2, .ref a3), (3, .ref a4), (4, .ref a5), (5, .ref a6), (6, .int (nI m7)), (7, .ref a8), (8, .ref a9), (10, .int (nI m10))] [.int x11] w Q := by
  refine r_pop 132 333 rfl rfl rfl ?_
  refine r_aload_n 133 334 2 rfl rfl rfl ?_
  refine r_aload 134 336 8 rfl rfl rfl ?_
  refine r_callF lkF_X1_175_J29 (C := RJ29) (TT := TJ29) (NN := 6) rfl o1 135 341 rfl rfl (by decide) [] rfl rfl (Nat.le_of_ble_eq_true rfl) (Nat.le_of_ble_eq_true rfl) (e_J29_getKey hS (p6 := p16) (p5 := p15) (p4 := p14) (o1 := o1) (k2 := ?_)) (fun _ _ h => h)
  show Rn G mX1_least 341 [(0, .ref a1), (1, .ref a2), (2, .ref a3), (3, .ref a4), (4, .ref a5), (5, .ref a6), (6, .int (nI m7)), (7, .ref a8), (8, .ref a9), (10, .int (nI m10))] [.ref a12, .ref a3] w _
  refine r_castS (C := RJ20) (TT := TJ20) (NN := 1) rfl q1411 136 344 rfl rfl o2 ?_
  refine r_callV lkV_X1_123_J20 (C := RJ20) (TT := TJ20) (NN := 1) rfl o2 137 347 rfl rfl (by decide) [] rfl rfl (Nat.le_of_ble_eq_true rfl) (Nat.le_of_ble_eq_true rfl) (e_J20_intValue hS (o1 := o2) (k2 := ?_)) (fun _ _ h => h)
  show Rn G mX1_least 347 [(0, .ref a1), (1, .ref a2), (2, .ref a3), (3, .ref a4), (4, .ref a5), (5, .ref a6), (6, .int (nI m7)), (7, .ref a8), (8, .ref a9), (10, .int (nI m10))] [.int x18, .ref a3] w _
  refine x_eq q3 ?_
  refine r_aload 138 349 4 rfl rfl rfl ?_
  refine r_iload 139 351 9 rfl rfl rfl ?_
  refine r_callV lkV_X1_170_J6 (C := RJ6) (TT := TJ6) (NN := 3) rfl o4 140 354 rfl rfl (by decide) [.int (nI m10)] rfl rfl (Nat.le_of_ble_eq_true rfl) (Nat.le_of_ble_eq_true rfl) (e_J6_get hS (a8 := a25) (m5 := m22) (m2 := m10) (o1 := o4) (b2 := b6) (b3 := b7) (f4 := f8) (o5 := o5) (b6 := b9) (b7 := b10) (q8 := q11) (k9 := ?_)) (fun _ _ h => h)
  show Rn G mX1_least 354 [(0, .ref a1), (1, .ref a2), (2, .ref a3), (3, .ref a4), (4, .ref a5), (5, .ref a6), (6, .int (nI m7)), (7, .ref a8), (8, .ref a9), (10, .int (nI m10))] [.ref a25, .int (nI m19), .ref a3] w _
  refine r_castS (C := RJ20) (TT := TJ20) (NN := 1) rfl q1411 141 357 rfl rfl o12 ?_
  refine r_callV lkV_X1_123_J20 (C := RJ20) (TT := TJ20) (NN := 1) rfl o12 142 360 rfl rfl (by decide) [] rfl rfl (Nat.le_of_ble_eq_true rfl) (Nat.le_of_ble_eq_true rfl) (e_J20_intValue hS (o1 := o12) (k2 := ?_)) (fun _ _ h => h)
  show Rn G mX1_least 360 [(0, .ref a1), (1, .ref a2), (2, .ref a3), (3, .ref a4), (4, .ref a5), (5, .ref a6), (6, .int (nI m7)), (7, .ref a8), (8, .ref a9), (10, .int (nI m10))] [.int x26, .int (nI m19), .ref a3] w _
  refine y_iast (i := m19) 143 361 rfl rfl o13 b14 bd15 ?_
  show Rn G mX1_least 361 [(0, .ref a1), (1, .ref a2), (2, .ref a3), (3, .ref a4), (4, .ref a5), (5, .ref a6), (6, .int (nI m7)), (7, .ref a8), (8, .ref a9), (10, .int (nI m10))] [] (wset w a3 (arI .int n27 (upF g28 m19 x26))) _
  refine r_goto 144 125 rfl rfl ?_
  exact r_sub [0, 1, 2, 3, 4, 5, 6, 7] rfl k16
theorem e_X1_least_255 {G : Gm} {κ : Nat → Nat} {φ : Nat → Option Nat} (hS : GS G κ φ) {w : Wd} {Q : Rs → Wd → Prop} {a1 : Nat} {a2 : Nat} {a3 : Nat} {a4 : Nat} {a5 : Nat} {a6 : Nat} {m7 : Nat} {a8 : Nat} {a9 : Nat} {a10 : Nat} {a11 : Nat} (k1 : Rn G mX1_least 215 [(0, .ref a1), (1, .ref a2), (2, .ref a3), (3, .ref a4), (4, .ref a5), (5, .ref a6), (6, .int (nI m7)), (7, .ref a8), (8, .ref a9), (9, .ref a10)] [] w Q) : Rn G mX1_least 255 [(0, .ref a1), (1, .ref a2), (2, .ref a3), (3, .ref a4), (4, .ref a5), (5, .ref a6), (6, .int (nI m7)), (7, .ref a8), (8, .ref a9), (9, .ref a10)] [.ref a11] w Q := by
  refine r_pop 99 256 rfl rfl rfl ?_
  refine r_goto 100 215 rfl rfl ?_
  exact k1
theorem e_X1_alike {G : Gm} {κ : Nat → Nat} {φ : Nat → Option Nat} (hS : GS G κ φ) {w : Wd} {Q : Rs → Wd → Prop} {a1 : Nat} {x2 : Int32} {x3 : Int32} {a4 : Nat} {a5 : Nat} {a6 : Nat} {a7 : Nat} (o1 : Lk G w a1 (.inl (nX1, [.ref a4, .ref a5, .ref a6, .ref a7]))) {Q2 : Rs → Wd → Prop} (e2 : Ev G mX1_lineOf [.ref a1, .int x2] w Q2) (k2 : ∀ r w', Q2 r w' → Af G mX1_alike 2 5 [(0, .ref a1), (2, .int x3)] [] r w' Q) : Ev G mX1_alike [.ref a1, .int x2, .int x3] w Q := by
  show Rn G mX1_alike 0 [(0, .ref a1), (1, .int x2), (2, .int x3)] [] w Q
  refine r_aload_n 0 1 0 rfl rfl rfl ?_
  refine r_iload_n 1 2 1 rfl rfl rfl ?_
  exact r_callV lkV_X1_166_X1 (C := RX1) (TT := TX1) (NN := 4) rfl o1 2 5 rfl rfl (by decide) [.int x2] rfl rfl (Nat.le_of_ble_eq_true rfl) (Nat.le_of_ble_eq_true rfl) e2 (fun r w' h => Af.sub [0, 2] rfl (k2 r w' h))
theorem e_X1_alike_5 {G : Gm} {κ : Nat → Nat} {φ : Nat → Option Nat} (hS : GS G κ φ) {w : Wd} {Q : Rs → Wd → Prop} {a1 : Nat} {x2 : Int32} {a3 : Nat} {a4 : Nat} {a5 : Nat} {a6 : Nat} {a7 : Nat} (o1 : Lk G w a1 (.inl (nX1, [.ref a4, .ref a5, .ref a6, .ref a7]))) {Q2 : Rs → Wd → Prop} (e2 : Ev G mX1_lineOf [.ref a1, .int x2] w Q2) (k2 : ∀ r w', Q2 r w' → Af G mX1_alike 8 11 [(0, .ref a1), (3, .ref a3)] [] r w' Q) : Rn G mX1_alike 5 [(0, .ref a1), (2, .int x2)] [.ref a3] w Q := by
  refine r_astore_n (lv' := [(3, .ref a3), (0, .ref a1), (2, .int x2)]) 3 6 rfl rfl (Nat.le_of_ble_eq_true rfl) rfl ?_
  refine r_aload_n 4 7 1 rfl rfl rfl ?_
  refine r_iload_n 5 8 2 rfl rfl rfl ?_
  exact r_callV lkV_X1_166_X1 (C := RX1) (TT := TX1) (NN := 4) rfl o1 6 11 rfl rfl (by decide) [.int x2] rfl rfl (Nat.le_of_ble_eq_true rfl) (Nat.le_of_ble_eq_true rfl) e2 (fun r w' h => Af.sub [1, 0] rfl (k2 r w' h))
theorem e_X1_alike_11 {G : Gm} {κ : Nat → Nat} {φ : Nat → Option Nat} (hS : GS G κ φ) {w : Wd} {Q : Rs → Wd → Prop} {a1 : Nat} {a2 : Nat} {a3 : Nat} {a4 : Nat} {a5 : Nat} {a6 : Nat} {a7 : Nat} (o1 : Lk G w a1 (.inl (nX1, [.ref a4, .ref a5, .ref a6, .ref a7]))) {Q2 : Rs → Wd → Prop} (e2 : Ev G mX1_least [.ref a1] w Q2) (k2 : ∀ r w', Q2 r w' → Af G mX1_alike 14 17 [(3, .ref a2), (4, .ref a3)] [] r w' Q) : Rn G mX1_alike 11 [(0, .ref a1), (3, .ref a2)] [.ref a3] w Q := by
  refine r_astore (lv' := [(4, .ref a3), (0, .ref a1), (3, .ref a2)]) 7 13 rfl rfl (Nat.le_of_ble_eq_true rfl) rfl ?_
  refine r_aload_n 8 14 1 rfl rfl rfl ?_
  exact r_callV lkV_X1_292_X1 (C := RX1) (TT := TX1) (NN := 4) rfl o1 9 17 rfl rfl (by decide) [] rfl rfl (Nat.le_of_ble_eq_true rfl) (Nat.le_of_ble_eq_true rfl) e2 (fun r w' h => Af.sub [2, 0] rfl (k2 r w' h))
theorem e_X1_alike_17 {G : Gm} {κ : Nat → Nat} {φ : Nat → Option Nat} (hS : GS G κ φ) {w : Wd} {Q : Rs → Wd → Prop} {a1 : Nat} {a2 : Nat} {a3 : Nat} {m4 : Nat} {a5 : Nat} {a6 : Nat} {n7 : Nat} {g8 : Nat → Int32} {m9 : Nat} {a10 : Nat} {a11 : Nat} (o1 : Lk G w a1 (.inl (nX7, [.int (nI m4), .ref a5, .ref a6]))) (o2 : Lk G w a3 (arI .int n7 g8)) (b3 : m4 < n7) (bd4 : n7 < 2 ^ 31) (o5 : Lk G w a2 (.inl (nX7, [.int (nI m9), .ref a10, .ref a11]))) (b6 : m9 < n7) (k7 : ¬ (g8 m4) = (g8 m9) → Q (.inl (some (.int 0))) w) (k8 : (g8 m4) = (g8 m9) → Q (.inl (some (.int 1))) w) : Rn G mX1_alike 17 [(3, .ref a1), (4, .ref a2)] [.ref a3] w Q := by
  refine r_astore (lv' := [(5, .ref a3), (3, .ref a1), (4, .ref a2)]) 10 19 rfl rfl (Nat.le_of_ble_eq_true rfl) rfl ?_
  refine r_aload 11 21 0 rfl rfl rfl ?_
  refine r_aload_n 12 22 1 rfl rfl rfl ?_
  refine r_get (v := .int (nI m4)) fl_X1_91_X7 13 25 rfl rfl o1 rfl ?_
  refine y_iald (i := m4) 14 26 rfl rfl o2 b3 bd4 ?_
  refine r_aload 15 28 0 rfl rfl rfl ?_
  refine r_aload 16 30 2 rfl rfl rfl ?_
  refine r_get (v := .int (nI m9)) fl_X1_91_X7 17 33 rfl rfl o5 rfl ?_
  refine y_iald (i := m9) 18 34 rfl rfl o2 b6 (by omega) ?_
  refine r_icmp_ne 19 37 41 rfl rfl rfl (fun c1 => ?_) (fun c1 => ?_)
  · refine r_iconst 22 42 rfl rfl di_0 ?_
    exact r_iret 23 rfl rfl (by decide) (k7 c1)
  · refine r_iconst 20 38 rfl rfl di_1 ?_
    refine r_goto 21 42 rfl rfl ?_
    exact r_iret 23 rfl rfl (by decide) (k8 c1)
theorem e_X1_join {G : Gm} {κ : Nat → Nat} {φ : Nat → Option Nat} (hS : GS G κ φ) {w : Wd} {Q : Rs → Wd → Prop} {a1 : Nat} {a2 : Nat} {a3 : Nat} {a4 : Nat} {a5 : Nat} (o1 : Lk G w a1 (.inl (nX1, [.ref a2, .ref a3, .ref a4, .ref a5]))) {Q2 : Rs → Wd → Prop} (e2 : Ev G mX1_least [.ref a1] w Q2) (k2 : ∀ r w', Q2 r w' → Af G mX1_join 1 4 [(0, .ref a1)] [] r w' Q) : Ev G mX1_join [.ref a1] w Q := by
  show Rn G mX1_join 0 [(0, .ref a1)] [] w Q
  refine r_aload_n 0 1 0 rfl rfl rfl ?_
  exact r_callV lkV_X1_292_X1 (C := RX1) (TT := TX1) (NN := 4) rfl o1 1 4 rfl rfl (by decide) [] rfl rfl (Nat.le_of_ble_eq_true rfl) (Nat.le_of_ble_eq_true rfl) e2 (fun r w' h => Af.sub [0] rfl (k2 r w' h))
theorem e_X1_join_4 {G : Gm} {κ : Nat → Nat} {φ : Nat → Option Nat} (hS : GS G κ φ) {w : Wd} {Q : Rs → Wd → Prop} {a1 : Nat} {a2 : Nat} {a3 : Nat} {a4 : Nat} {a5 : Nat} {a6 : Nat} {p7 : Option Nat} {p8 : Option Nat} {p9 : Option Nat} {m10 : Nat} {x11 : Int32} {p12 : Option Nat} {p13 : Option Nat} {p14 : Option Nat} (hg : 21 ≤ w.2.2) (o1 : Lk G w a1 (.inl (nX1, [.ref a3, .ref a4, .ref a5, .ref a6]))) (o2 : Lk G w a5 (.inl (nJ8, [va_rf p7, va_rf p8, .null, va_rf p9, .int (nI m10), .int x11, va_rf p12, va_rf p13, va_rf p14]))) {Q3 : Rs → Wd → Prop} (e3 : Ev G mJ8_entrySet [.ref a5] (wset (wnew w (.inl (nJ8, [.null, .null, .null, .null, .int 0, .int 0, .null, .null, .null])) 9) w.2.1 (.inl (nJ8, [.null, .null, .null, .null, .int 0, .int 0, .null, .null, .null]))) Q3) (k3 : ∀ r w', Q3 r w' → Af G mX1_join 17 20 [(0, .ref a1), (1, .ref a2), (2, .ref w.2.1)] [] r w' Q) : Rn G mX1_join 4 [(0, .ref a1)] [.ref a2] w Q := by
  refine Rn.wok fun hwk => ?_
  refine r_astore_n (lv' := [(1, .ref a2), (0, .ref a1)]) 2 5 rfl rfl (Nat.le_of_ble_eq_true rfl) rfl ?_
  refine r_new (fs := [.null, .null, .null, .null, .int 0, .int 0, .null, .null, .null]) (ty := tyJ8) (T := TJ8) (C := RJ8) (N := 9) (ci := nJ8) (n := 9) 3 8 rfl rfl rfl in_J8 tyJ8_ok q175 q176 q69 rfl (by decide) (by show 12 + 9 ≤ w.2.2; omega) ?_
  show Rn G mX1_join 8 [(1, .ref a2), (0, .ref a1)] [.ref w.2.1] (wnew w (.inl (nJ8, [.null, .null, .null, .null, .int 0, .int 0, .null, .null, .null])) 9) _
  refine r_dup 4 9 rfl rfl rfl ?_
  refine r_callI lkI_X1_25 5 12 rfl rfl (by decide) [] rfl rfl (Nat.le_of_ble_eq_true rfl) (Nat.le_of_ble_eq_true rfl) (e_J8_init hS (o1 := wnew_s) (k2 := ?_)) (fun _ _ h => h)
  show Rn G mX1_join 12 [(1, .ref a2), (0, .ref a1)] [.ref w.2.1] (wset (wnew w (.inl (nJ8, [.null, .null, .null, .null, .int 0, .int 0, .null, .null, .null])) 9) w.2.1 (.inl (nJ8, [.null, .null, .null, .null, .int 0, .int 0, .null, .null, .null]))) _
  refine r_astore_n (lv' := [(2, .ref w.2.1), (1, .ref a2), (0, .ref a1)]) 6 13 rfl rfl (Nat.le_of_ble_eq_true rfl) rfl ?_
  refine r_aload_n 7 14 2 rfl rfl rfl ?_
  refine r_get (v := .ref a5) fl_X1_26_X1 8 17 rfl rfl (Lk.set_n (Lk.new_n o1 (by have := (o1.lt hwk); show a1 < w.2.1; omega)) (Nat.ne_of_lt (show a1 < w.2.1 from (by have := Lk.lt o1 hwk; omega)))) rfl ?_
  exact r_callV lkV_X1_130_J8 (C := RJ8) (TT := TJ8) (NN := 9) rfl (Lk.set_n (Lk.new_n o2 (by have := (o2.lt hwk); show a5 < w.2.1; omega)) (Nat.ne_of_lt (show a5 < w.2.1 from (by have := Lk.lt o2 hwk; omega)))) 9 20 rfl rfl (by decide) [] rfl rfl (Nat.le_of_ble_eq_true rfl) (Nat.le_of_ble_eq_true rfl) e3 (fun r w' h => Af.sub [2, 1, 0] rfl (k3 r w' h))
theorem e_X1_join_20 {G : Gm} {κ : Nat → Nat} {φ : Nat → Option Nat} (hS : GS G κ φ) {w : Wd} {Q : Rs → Wd → Prop} {a1 : Nat} {a2 : Nat} {nww21 : Nat} {a3 : Nat} {a4 : Nat} (o1 : w.1 nww21 = some (.inl (nJ8, [.null, .null, .null, .null, .int 0, .int 0, .null, .null, .null]))) (o2 : Lk G w a3 (.inl (nJ31, [.ref a4]))) {Q3 : Rs → Wd → Prop} (e3 : Ev G mJ31_iterator [.ref a3] w Q3) (k3 : ∀ r w', Q3 r w' → Af G mX1_join 20 25 [(0, .ref a1), (1, .ref a2), (2, .ref nww21)] [] r w' Q) : Rn G mX1_join 20 [(0, .ref a1), (1, .ref a2), (2, .ref nww21)] [.ref a3] w Q := by
  exact r_callF lkF_X1_134_J31 (C := RJ31) (TT := TJ31) (NN := 1) rfl o2 10 25 rfl rfl (by decide) [] rfl rfl (Nat.le_of_ble_eq_true rfl) (Nat.le_of_ble_eq_true rfl) e3 (fun r w' h => Af.sub [0, 1, 2] rfl (k3 r w' h))
theorem e_X1_join_25 {G : Gm} {κ : Nat → Nat} {φ : Nat → Option Nat} (hS : GS G κ φ) {w : Wd} {Q : Rs → Wd → Prop} {a1 : Nat} {a2 : Nat} {a3 : Nat} {a4 : Nat} (k1 : Rn G mX1_join 26 [(0, .ref a1), (1, .ref a2), (2, .ref a3), (3, .ref a4)] [] w Q) : Rn G mX1_join 25 [(0, .ref a1), (1, .ref a2), (2, .ref a3)] [.ref a4] w Q := by
  refine r_astore_n (lv' := [(3, .ref a4), (0, .ref a1), (1, .ref a2), (2, .ref a3)]) 11 26 rfl rfl (Nat.le_of_ble_eq_true rfl) rfl ?_
  exact r_sub [1, 2, 3, 0] rfl k1
theorem e_X1_join_26 {G : Gm} {κ : Nat → Nat} {φ : Nat → Option Nat} (hS : GS G κ φ) {w : Wd} {Q : Rs → Wd → Prop} {a1 : Nat} {a2 : Nat} {a3 : Nat} {a4 : Nat} {p5 : Option Nat} {p6 : Option Nat} {x7 : Int32} {a8 : Nat} (o1 : Lk G w a4 (.inl (nJ33, [va_rf p5, va_rf p6, .int x7, .ref a8]))) {Q2 : Rs → Wd → Prop} (e2 : Ev G mJ32_hasNext [.ref a4] w Q2) (k2 : ∀ r w', Q2 r w' → Af G mX1_join 27 32 [(0, .ref a1), (1, .ref a2), (2, .ref a3), (3, .ref a4)] [] r w' Q) : Rn G mX1_join 26 [(0, .ref a1), (1, .ref a2), (2, .ref a3), (3, .ref a4)] [] w Q := by
  refine r_aload_n 12 27 3 rfl rfl rfl ?_
  exact r_callF lkF_X1_110_J33 (C := RJ33) (TT := TJ33) (NN := 4) rfl o1 13 32 rfl rfl (by decide) [] rfl rfl (Nat.le_of_ble_eq_true rfl) (Nat.le_of_ble_eq_true rfl) e2 (fun r w' h => Af.sub [0, 1, 2, 3] rfl (k2 r w' h))
theorem e_X1_join_32 {G : Gm} {κ : Nat → Nat} {φ : Nat → Option Nat} (hS : GS G κ φ) {w : Wd} {Q : Rs → Wd → Prop} {a1 : Nat} {a2 : Nat} {a3 : Nat} {a4 : Nat} {x5 : Int32} {a6 : Nat} {a7 : Nat} {a8 : Nat} {a9 : Nat} {p10 : Option Nat} {p11 : Option Nat} {p12 : Option Nat} {m13 : Nat} {x14 : Int32} {p15 : Option Nat} {p16 : Option Nat} {p17 : Option Nat} {p18 : Option Nat} {p19 : Option Nat} {p20 : Option Nat} {m21 : Nat} {x22 : Int32} {p23 : Option Nat} {p24 : Option Nat} {p25 : Option Nat} {p26 : Option Nat} {p27 : Option Nat} {x28 : Int32} {a29 : Nat} (o1 : w.1 a1 = some (.inl (nX1, [.ref a6, .ref a7, .ref a8, .ref a9]))) (o2 : Lk G w a8 (.inl (nJ8, [va_rf p10, va_rf p11, .null, va_rf p12, .int (nI m13), .int x14, va_rf p15, va_rf p16, va_rf p17]))) (o3 : Lk G w a3 (.inl (nJ8, [va_rf p18, va_rf p19, .null, va_rf p20, .int (nI m21), .int x22, va_rf p23, va_rf p24, va_rf p25]))) (b4 : x5 = 0 → m21 ≤ m13) (k5 : x5 = 0 → Q (.inl (some (.int (nI (m13 - m21))))) (wset w a1 (.inl (nX1, [.ref a6, .ref a7, .ref a3, .ref a9])))) (o6 : Lk G w a4 (.inl (nJ33, [va_rf p26, va_rf p27, .int x28, .ref a29]))) {Q7 : Rs → Wd → Prop} (e7 : ¬ x5 = 0 → Ev G mJ33_next [.ref a4] w Q7) (k7 : ¬ x5 = 0 → ∀ r w', Q7 r w' → Af G mX1_join 36 41 [(0, .ref a1), (1, .ref a2), (2, .ref a3), (3, .ref a4)] [] r w' Q) : Rn G mX1_join 32 [(0, .ref a1), (1, .ref a2), (2, .ref a3), (3, .ref a4)] [.int x5] w Q := by
  refine r_if_eq 14 35 192 rfl rfl rfl (fun c1 => ?_) (fun c1 => ?_)
  · refine r_aload_n 72 193 0 rfl rfl rfl ?_
    refine r_get (v := .ref a8) fl_X1_26_X1 73 196 rfl rfl (Or.inl o1) rfl ?_
    refine r_callV lkV_X1_129_J8 (C := RJ8) (TT := TJ8) (NN := 9) rfl o2 74 199 rfl rfl (by decide) [] rfl rfl (Nat.le_of_ble_eq_true rfl) (Nat.le_of_ble_eq_true rfl) (e_J8_size hS (p9 := p17) (p8 := p16) (p7 := p15) (m5 := m13) (p4 := p12) (p3 := p11) (p2 := p10) (o1 := o2) (k2 := ?_)) (fun _ _ h => h)
    show Rn G mX1_join 199 [(0, .ref a1), (1, .ref a2), (2, .ref a3), (3, .ref a4)] [.int (nI m13)] w _
    refine r_aload_n 75 200 2 rfl rfl rfl ?_
    refine r_callV lkV_X1_129_J8 (C := RJ8) (TT := TJ8) (NN := 9) rfl o3 76 203 rfl rfl (by decide) [] rfl rfl (Nat.le_of_ble_eq_true rfl) (Nat.le_of_ble_eq_true rfl) (e_J8_size hS (p9 := p25) (p8 := p24) (p7 := p23) (m5 := m21) (p4 := p20) (p3 := p19) (p2 := p18) (o1 := o3) (k2 := ?_)) (fun _ _ h => h)
    show Rn G mX1_join 203 [(0, .ref a1), (1, .ref a2), (2, .ref a3), (3, .ref a4)] [.int (nI m21), .int (nI m13)] w _
    refine r_isub 77 204 rfl rfl ?_
    refine x_eq (y := (nI (m13 - m21))) (pk_sub (a := m13) (b := m21) (b4 c1)) ?_
    refine r_istore_n (lv' := [(3, .int (nI (m13 - m21))), (0, .ref a1), (1, .ref a2), (2, .ref a3)]) 78 205 rfl rfl (Nat.le_of_ble_eq_true rfl) rfl ?_
    refine r_aload_n 79 206 1 rfl rfl rfl ?_
    refine r_aload_n 80 207 3 rfl rfl rfl ?_
    refine r_put (i := 2) fl_X1_26_X1 in_X1 q106 (ty0 := tyX1) tyX1_ok nmX1 81 210 rfl rfl o1 rfl rfl rfl (Nat.le_of_ble_eq_true rfl) ?_
    show Rn G mX1_join 210 [(3, .int (nI (m13 - m21))), (0, .ref a1), (1, .ref a2), (2, .ref a3)] [] (wset w a1 (.inl (nX1, [.ref a6, .ref a7, .ref a3, .ref a9]))) _
    refine r_iload_n 82 211 0 rfl rfl rfl ?_
    exact r_iret 83 rfl rfl rfl (k5 c1)
  · refine r_aload_n 15 36 3 rfl rfl rfl ?_
    exact r_callF lkF_X1_115_J33 (C := RJ33) (TT := TJ33) (NN := 4) rfl o6 16 41 rfl rfl (by decide) [] rfl rfl (Nat.le_of_ble_eq_true rfl) (Nat.le_of_ble_eq_true rfl) (e7 c1) (fun r w' h => Af.sub [0, 1, 2, 3] rfl ((k7 c1) r w' h))
theorem e_X1_join_41 {G : Gm} {κ : Nat → Nat} {φ : Nat → Option Nat} (hS : GS G κ φ) {w : Wd} {Q : Rs → Wd → Prop} {a1 : Nat} {a2 : Nat} {a3 : Nat} {a4 : Nat} {a5 : Nat} {a6 : Nat} {a7 : Nat} {p8 : Option Nat} {p9 : Option Nat} {p10 : Option Nat} {x11 : Int32} {x12 : Int32} {m13 : Nat} {n14 : Nat} {g15 : Nat → Int32} {m16 : Nat} {m17 : Nat} {a18 : Nat} {a19 : Nat} {x20 : Int32} {a21 : Nat} {m22 : Nat} (o1 : Lk G w a5 (.inl (nJ29, [.ref a6, .ref a7, va_rf p8, va_rf p9, va_rf p10, .int x11]))) (o2 : Lk G w a6 (.inl (nJ20, [.int x12]))) (q3 : x12 = nI m13) (o4 : Lk G w a2 (arI .int n14 g15)) (b5 : m13 < n14) (bd6 : n14 < 2 ^ 31) (k7 : ¬ (g15 m13) = x12 → Rn G mX1_join 26 [(0, .ref a1), (1, .ref a2), (2, .ref a3), (3, .ref a4)] [] w Q) (hg : 30 ≤ w.2.2) (q8 : (g15 m13) = x12 → x12 = nI m16) (o9 : Lk G w a7 (.inl (nX7, [.int (nI m17), .ref a18, .ref a19]))) (o10 : Lk G w a19 (.inl (nJ6, [.int x20, .ref a21, .int (nI m22)]))) {Q11 : Rs → Wd → Prop} (e11 : (g15 m13) = x12 → Ev G mJ6_iterator [.ref a19] (wset (wset (wnew (wnew w (.inl (nX7, [.int 0, .null, .null])) 3) (.inl (nJ6, [.int 0, .null, .int 0])) 3) (w.2.1 + 1) (.inl (nJ6, [.int 0, .ref (κ 1), .int 0]))) w.2.1 (.inl (nX7, [.int (nI m16), .ref a18, .ref (w.2.1 + 1)]))) Q11) (k11 : (g15 m13) = x12 → ∀ r w', Q11 r w' → Af G mX1_join 125 128 [(0, .ref a1), (1, .ref a2), (2, .ref a3), (3, .ref a4), (5, .ref w.2.1)] [] r w' Q) : Rn G mX1_join 41 [(0, .ref a1), (1, .ref a2), (2, .ref a3), (3, .ref a4)] [.ref a5] w Q := by
  refine Rn.wok fun hwk => ?_
  refine r_castY (C := RJ29) (TT := TJ29) (NN := 6) rfl q1472 q1477 17 44 rfl rfl o1 ?_
  refine r_astore (lv' := [(4, .ref a5), (0, .ref a1), (1, .ref a2), (2, .ref a3), (3, .ref a4)]) 18 46 rfl rfl (Nat.le_of_ble_eq_true rfl) rfl ?_
  refine r_aload_n 19 47 2 rfl rfl rfl ?_
  refine r_aload 20 49 0 rfl rfl rfl ?_
  refine r_callF lkF_X1_175_J29 (C := RJ29) (TT := TJ29) (NN := 6) rfl o1 21 54 rfl rfl (by decide) [] rfl rfl (Nat.le_of_ble_eq_true rfl) (Nat.le_of_ble_eq_true rfl) (e_J29_getKey hS (p6 := p10) (p5 := p9) (p4 := p8) (o1 := o1) (k2 := ?_)) (fun _ _ h => h)
  show Rn G mX1_join 54 [(4, .ref a5), (0, .ref a1), (1, .ref a2), (2, .ref a3), (3, .ref a4)] [.ref a6, .ref a2] w _
  refine r_castS (C := RJ20) (TT := TJ20) (NN := 1) rfl q1411 22 57 rfl rfl o2 ?_
  refine r_callV lkV_X1_123_J20 (C := RJ20) (TT := TJ20) (NN := 1) rfl o2 23 60 rfl rfl (by decide) [] rfl rfl (Nat.le_of_ble_eq_true rfl) (Nat.le_of_ble_eq_true rfl) (e_J20_intValue hS (o1 := o2) (k2 := ?_)) (fun _ _ h => h)
  show Rn G mX1_join 60 [(4, .ref a5), (0, .ref a1), (1, .ref a2), (2, .ref a3), (3, .ref a4)] [.int x12, .ref a2] w _
  refine x_eq q3 ?_
  refine y_iald (i := m13) 24 61 rfl rfl o4 b5 bd6 ?_
  refine r_aload 25 63 0 rfl rfl rfl ?_
  refine r_callF lkF_X1_175_J29 (C := RJ29) (TT := TJ29) (NN := 6) rfl o1 26 68 rfl rfl (by decide) [] rfl rfl (Nat.le_of_ble_eq_true rfl) (Nat.le_of_ble_eq_true rfl) (e_J29_getKey hS (p6 := p10) (p5 := p9) (p4 := p8) (o1 := o1) (k2 := ?_)) (fun _ _ h => h)
  show Rn G mX1_join 68 [(4, .ref a5), (0, .ref a1), (1, .ref a2), (2, .ref a3), (3, .ref a4)] [.ref a6, .int (g15 m13)] w _
  refine r_castS (C := RJ20) (TT := TJ20) (NN := 1) rfl q1411 27 71 rfl rfl o2 ?_
  refine r_callV lkV_X1_123_J20 (C := RJ20) (TT := TJ20) (NN := 1) rfl o2 28 74 rfl rfl (by decide) [] rfl rfl (Nat.le_of_ble_eq_true rfl) (Nat.le_of_ble_eq_true rfl) (e_J20_intValue hS (o1 := o2) (k2 := ?_)) (fun _ _ h => h)
  show Rn G mX1_join 74 [(4, .ref a5), (0, .ref a1), (1, .ref a2), (2, .ref a3), (3, .ref a4)] [.int x12, .int (g15 m13)] w _
  refine r_icmp_ne 29 77 189 rfl rfl rfl (fun c1 => ?_) (fun c1 => ?_)
  · refine r_goto 71 26 rfl rfl ?_
    exact r_sub [1, 2, 3, 4] rfl (k7 c1)
  · refine r_new (fs := [.int 0, .null, .null]) (ty := tyX7) (T := TX7) (C := RX7) (N := 3) (ci := nX7) (n := 3) 30 80 rfl rfl rfl in_X7 tyX7_ok q1392 q1187 q97 rfl (by decide) (by show 12 + 3 ≤ w.2.2; omega) ?_
    show Rn G mX1_join 80 [(4, .ref a5), (0, .ref a1), (1, .ref a2), (2, .ref a3), (3, .ref a4)] [.ref w.2.1] (wnew w (.inl (nX7, [.int 0, .null, .null])) 3) _
    refine r_dup 31 81 rfl rfl rfl ?_
    refine r_aload 32 83 0 rfl rfl rfl ?_
    refine r_callF lkF_X1_175_J29 (C := RJ29) (TT := TJ29) (NN := 6) rfl (Lk.new_n o1 (by have := (o1.lt hwk); show a5 < w.2.1; omega)) 33 88 rfl rfl (by decide) [] rfl rfl (Nat.le_of_ble_eq_true rfl) (Nat.le_of_ble_eq_true rfl) (e_J29_getKey hS (p6 := p10) (p5 := p9) (p4 := p8) (o1 := (Lk.new_n o1 (by have := (o1.lt hwk); show a5 < w.2.1; omega))) (k2 := ?_)) (fun _ _ h => h)
    show Rn G mX1_join 88 [(4, .ref a5), (0, .ref a1), (1, .ref a2), (2, .ref a3), (3, .ref a4)] [.ref a6, .ref w.2.1, .ref w.2.1] (wnew w (.inl (nX7, [.int 0, .null, .null])) 3) _
    refine r_castS (C := RJ20) (TT := TJ20) (NN := 1) rfl q1411 34 91 rfl rfl (Lk.new_n o2 (by have := (o2.lt hwk); show a6 < w.2.1; omega)) ?_
    refine r_callV lkV_X1_123_J20 (C := RJ20) (TT := TJ20) (NN := 1) rfl (Lk.new_n o2 (by have := (o2.lt hwk); show a6 < w.2.1; omega)) 35 94 rfl rfl (by decide) [] rfl rfl (Nat.le_of_ble_eq_true rfl) (Nat.le_of_ble_eq_true rfl) (e_J20_intValue hS (o1 := (Lk.new_n o2 (by have := (o2.lt hwk); show a6 < w.2.1; omega))) (k2 := ?_)) (fun _ _ h => h)
    show Rn G mX1_join 94 [(4, .ref a5), (0, .ref a1), (1, .ref a2), (2, .ref a3), (3, .ref a4)] [.int x12, .ref w.2.1, .ref w.2.1] (wnew w (.inl (nX7, [.int 0, .null, .null])) 3) _
    refine x_eq (q8 c1) ?_
    refine r_aload 36 96 0 rfl rfl rfl ?_
    refine r_callF lkF_X1_139_J29 (C := RJ29) (TT := TJ29) (NN := 6) rfl (Lk.new_n o1 (by have := (o1.lt hwk); show a5 < w.2.1; omega)) 37 101 rfl rfl (by decide) [] rfl rfl (Nat.le_of_ble_eq_true rfl) (Nat.le_of_ble_eq_true rfl) (e_J29_getValue hS (p6 := p10) (p5 := p9) (p4 := p8) (o1 := (Lk.new_n o1 (by have := (o1.lt hwk); show a5 < w.2.1; omega))) (k2 := ?_)) (fun _ _ h => h)
    show Rn G mX1_join 101 [(4, .ref a5), (0, .ref a1), (1, .ref a2), (2, .ref a3), (3, .ref a4)] [.ref a7, .int (nI m16), .ref w.2.1, .ref w.2.1] (wnew w (.inl (nX7, [.int 0, .null, .null])) 3) _
    refine r_castS (C := RX7) (TT := TX7) (NN := 3) rfl q1392 38 104 rfl rfl (Lk.new_n o9 (by have := (o9.lt hwk); show a7 < w.2.1; omega)) ?_
    refine r_get (v := .ref a18) fl_X1_148_X7 39 107 rfl rfl (Lk.new_n o9 (by have := (o9.lt hwk); show a7 < w.2.1; omega)) rfl ?_
    refine r_callI lkI_X1_152 40 110 rfl rfl (by decide) [.int (nI m16), .ref a18] rfl rfl (Nat.le_of_ble_eq_true rfl) (Nat.le_of_ble_eq_true rfl) (e_X7_init hS (m2 := m16) (hg := by show 15 ≤ w.2.2 - (12 + 3); omega) (o1 := wnew_s) (k2 := ?_)) (fun _ _ h => h)
    show Rn G mX1_join 110 [(4, .ref a5), (0, .ref a1), (1, .ref a2), (2, .ref a3), (3, .ref a4)] [.ref w.2.1] (wset (wset (wnew (wnew w (.inl (nX7, [.int 0, .null, .null])) 3) (.inl (nJ6, [.int 0, .null, .int 0])) 3) (w.2.1 + 1) (.inl (nJ6, [.int 0, .ref (κ 1), .int 0]))) w.2.1 (.inl (nX7, [.int (nI m16), .ref a18, .ref (w.2.1 + 1)]))) _
    refine r_astore (lv' := [(5, .ref w.2.1), (4, .ref a5), (0, .ref a1), (1, .ref a2), (2, .ref a3), (3, .ref a4)]) 41 112 rfl rfl (Nat.le_of_ble_eq_true rfl) rfl ?_
    refine r_aload 42 114 1 rfl rfl rfl ?_
    refine r_callF lkF_X1_139_J29 (C := RJ29) (TT := TJ29) (NN := 6) rfl (Lk.set_n (Lk.set_n (Lk.new_n (Lk.new_n o1 (by have := (o1.lt hwk); show a5 < w.2.1; omega)) (by have := (o1.lt hwk); show a5 < (w.2.1 + 1); omega)) (Nat.ne_of_lt (show a5 < (w.2.1 + 1) from (by have := Lk.lt o1 hwk; omega)))) (Nat.ne_of_lt (show a5 < w.2.1 from (by have := Lk.lt o1 hwk; omega)))) 43 119 rfl rfl (by decide) [] rfl rfl (Nat.le_of_ble_eq_true rfl) (Nat.le_of_ble_eq_true rfl) (e_J29_getValue hS (p6 := p10) (p5 := p9) (p4 := p8) (o1 := (Lk.set_n (Lk.set_n (Lk.new_n (Lk.new_n o1 (by have := (o1.lt hwk); show a5 < w.2.1; omega)) (by have := (o1.lt hwk); show a5 < (w.2.1 + 1); omega)) (Nat.ne_of_lt (show a5 < (w.2.1 + 1) from (by have := Lk.lt o1 hwk; omega)))) (Nat.ne_of_lt (show a5 < w.2.1 from (by have := Lk.lt o1 hwk; omega))))) (k2 := ?_)) (fun _ _ h => h)
    show Rn G mX1_join 119 [(5, .ref w.2.1), (4, .ref a5), (0, .ref a1), (1, .ref a2), (2, .ref a3), (3, .ref a4)] [.ref a7] (wset (wset (wnew (wnew w (.inl (nX7, [.int 0, .null, .null])) 3) (.inl (nJ6, [.int 0, .null, .int 0])) 3) (w.2.1 + 1) (.inl (nJ6, [.int 0, .ref (κ 1), .int 0]))) w.2.1 (.inl (nX7, [.int (nI m16), .ref a18, .ref (w.2.1 + 1)]))) _
    refine r_castS (C := RX7) (TT := TX7) (NN := 3) rfl q1392 44 122 rfl rfl (Lk.set_n (Lk.set_n (Lk.new_n (Lk.new_n o9 (by have := (o9.lt hwk); show a7 < w.2.1; omega)) (by have := (o9.lt hwk); show a7 < (w.2.1 + 1); omega)) (Nat.ne_of_lt (show a7 < (w.2.1 + 1) from (by have := Lk.lt o9 hwk; omega)))) (Nat.ne_of_lt (show a7 < w.2.1 from (by have := Lk.lt o9 hwk; omega)))) ?_
    refine r_get (v := .ref a19) fl_X1_155_X7 45 125 rfl rfl (Lk.set_n (Lk.set_n (Lk.new_n (Lk.new_n o9 (by have := (o9.lt hwk); show a7 < w.2.1; omega)) (by have := (o9.lt hwk); show a7 < (w.2.1 + 1); omega)) (Nat.ne_of_lt (show a7 < (w.2.1 + 1) from (by have := Lk.lt o9 hwk; omega)))) (Nat.ne_of_lt (show a7 < w.2.1 from (by have := Lk.lt o9 hwk; omega)))) rfl ?_
    exact r_callV lkV_X1_106_J6 (C := RJ6) (TT := TJ6) (NN := 3) rfl (Lk.set_n (Lk.set_n (Lk.new_n (Lk.new_n o10 (by have := (o10.lt hwk); show a19 < w.2.1; omega)) (by have := (o10.lt hwk); show a19 < (w.2.1 + 1); omega)) (Nat.ne_of_lt (show a19 < (w.2.1 + 1) from (by have := Lk.lt o10 hwk; omega)))) (Nat.ne_of_lt (show a19 < w.2.1 from (by have := Lk.lt o10 hwk; omega)))) 46 128 rfl rfl (by decide) [] rfl rfl (Nat.le_of_ble_eq_true rfl) (Nat.le_of_ble_eq_true rfl) (e11 c1) (fun r w' h => Af.sub [2, 3, 4, 5, 0] rfl ((k11 c1) r w' h))
theorem e_X1_join_128 {G : Gm} {κ : Nat → Nat} {φ : Nat → Option Nat} (hS : GS G κ φ) {w : Wd} {Q : Rs → Wd → Prop} {a1 : Nat} {a2 : Nat} {a3 : Nat} {a4 : Nat} {a5 : Nat} {a6 : Nat} (k1 : Rn G mX1_join 130 [(0, .ref a1), (1, .ref a2), (2, .ref a3), (3, .ref a4), (5, .ref a5), (6, .ref a6)] [] w Q) : Rn G mX1_join 128 [(0, .ref a1), (1, .ref a2), (2, .ref a3), (3, .ref a4), (5, .ref a5)] [.ref a6] w Q := by
  refine r_astore (lv' := [(6, .ref a6), (0, .ref a1), (1, .ref a2), (2, .ref a3), (3, .ref a4), (5, .ref a5)]) 47 130 rfl rfl (Nat.le_of_ble_eq_true rfl) rfl ?_
  exact r_sub [1, 2, 3, 4, 5, 0] rfl k1
theorem e_X1_join_130 {G : Gm} {κ : Nat → Nat} {φ : Nat → Option Nat} (hS : GS G κ φ) {w : Wd} {Q : Rs → Wd → Prop} {a1 : Nat} {a2 : Nat} {a3 : Nat} {a4 : Nat} {a5 : Nat} {a6 : Nat} {m7 : Nat} {x8 : Int32} {x9 : Int32} {a10 : Nat} (o1 : Lk G w a6 (.inl (nJ22, [.int (nI m7), .int x8, .int x9, .ref a10]))) {Q2 : Rs → Wd → Prop} (e2 : Ev G mJ22_hasNext [.ref a6] w Q2) (k2 : ∀ r w', Q2 r w' → Af G mX1_join 132 137 [(0, .ref a1), (1, .ref a2), (2, .ref a3), (3, .ref a4), (5, .ref a5), (6, .ref a6)] [] r w' Q) : Rn G mX1_join 130 [(0, .ref a1), (1, .ref a2), (2, .ref a3), (3, .ref a4), (5, .ref a5), (6, .ref a6)] [] w Q := by
  refine r_aload 48 132 5 rfl rfl rfl ?_
  exact r_callF lkF_X1_110_J22 (C := RJ22) (TT := TJ22) (NN := 4) rfl o1 49 137 rfl rfl (by decide) [] rfl rfl (Nat.le_of_ble_eq_true rfl) (Nat.le_of_ble_eq_true rfl) e2 (fun r w' h => Af.sub [0, 1, 2, 3, 4, 5] rfl (k2 r w' h))
theorem e_X1_join_137 {G : Gm} {κ : Nat → Nat} {φ : Nat → Option Nat} (hS : GS G κ φ) {w : Wd} {Q : Rs → Wd → Prop} {a1 : Nat} {a2 : Nat} {a3 : Nat} {a4 : Nat} {a5 : Nat} {a6 : Nat} {x7 : Int32} {m8 : Nat} {a9 : Nat} {a10 : Nat} {m11 : Nat} {x12 : Int32} {x13 : Int32} {a14 : Nat} (o1 : Lk G w a5 (.inl (nX7, [.int (nI m8), .ref a9, .ref a10]))) {Q2 : Rs → Wd → Prop} (e2 : x7 = 0 → Ev G mJ20_valueOf [.int (nI m8)] w Q2) (k2 : x7 = 0 → ∀ r w', Q2 r w' → Af G mX1_join 176 179 [(0, .ref a1), (1, .ref a2), (2, .ref a3), (3, .ref a4), (5, .ref a5)] [.ref a3] r w' Q) (o3 : Lk G w a6 (.inl (nJ22, [.int (nI m11), .int x12, .int x13, .ref a14]))) {Q4 : Rs → Wd → Prop} (e4 : ¬ x7 = 0 → Ev G mJ22_next [.ref a6] w Q4) (k4 : ¬ x7 = 0 → ∀ r w', Q4 r w' → Af G mX1_join 142 147 [(0, .ref a1), (1, .ref a2), (2, .ref a3), (3, .ref a4), (5, .ref a5), (6, .ref a6)] [] r w' Q) : Rn G mX1_join 137 [(0, .ref a1), (1, .ref a2), (2, .ref a3), (3, .ref a4), (5, .ref a5), (6, .ref a6)] [.int x7] w Q := by
  refine r_if_eq 50 140 170 rfl rfl rfl (fun c1 => ?_) (fun c1 => ?_)
  · refine r_aload_n 63 171 2 rfl rfl rfl ?_
    refine r_aload 64 173 4 rfl rfl rfl ?_
    refine r_get (v := .int (nI m8)) fl_X1_91_X7 65 176 rfl rfl o1 rfl ?_
    exact r_callS lkS_X1_96 66 179 rfl rfl (by decide) [.int (nI m8)] rfl rfl (Nat.le_of_ble_eq_true rfl) (Nat.le_of_ble_eq_true rfl) (e2 c1) (fun r w' h => Af.sub [0, 1, 2, 3, 4] rfl ((k2 c1) r w' h))
  · refine r_aload 51 142 5 rfl rfl rfl ?_
    exact r_callF lkF_X1_115_J22 (C := RJ22) (TT := TJ22) (NN := 4) rfl o3 52 147 rfl rfl (by decide) [] rfl rfl (Nat.le_of_ble_eq_true rfl) (Nat.le_of_ble_eq_true rfl) (e4 c1) (fun r w' h => Af.sub [0, 1, 2, 3, 4, 5] rfl ((k4 c1) r w' h))
theorem e_X1_join_179 {G : Gm} {κ : Nat → Nat} {φ : Nat → Option Nat} (hS : GS G κ φ) {w : Wd} {Q : Rs → Wd → Prop} {a1 : Nat} {a2 : Nat} {k_a3 : Nat} {a3 : Nat} {a4 : Nat} {a5 : Nat} {p6 : Option Nat} {p7 : Option Nat} {p8 : Option Nat} {m9 : Nat} {x10 : Int32} {p11 : Option Nat} {p12 : Option Nat} {p13 : Option Nat} (o1 : Lk G w k_a3 (.inl (nJ8, [va_rf p6, va_rf p7, .null, va_rf p8, .int (nI m9), .int x10, va_rf p11, va_rf p12, va_rf p13]))) {Q2 : Rs → Wd → Prop} (e2 : Ev G mJ8_put [.ref k_a3, .ref a5, .ref a4] w Q2) (k2 : ∀ r w', Q2 r w' → Af G mX1_join 181 184 [(0, .ref a1), (1, .ref a2), (2, .ref k_a3), (3, .ref a3)] [] r w' Q) : Rn G mX1_join 179 [(0, .ref a1), (1, .ref a2), (2, .ref k_a3), (3, .ref a3), (5, .ref a4)] [.ref a5, .ref k_a3] w Q := by
  refine r_aload 67 181 4 rfl rfl rfl ?_
  exact r_callV lkV_X1_102_J8 (C := RJ8) (TT := TJ8) (NN := 9) rfl o1 68 184 rfl rfl (by decide) [.ref a5, .ref a4] rfl rfl (Nat.le_of_ble_eq_true rfl) (Nat.le_of_ble_eq_true rfl) e2 (fun r w' h => Af.sub [0, 1, 2, 3] rfl (k2 r w' h))
theorem e_X1_join_147 {G : Gm} {κ : Nat → Nat} {φ : Nat → Option Nat} (hS : GS G κ φ) {w : Wd} {Q : Rs → Wd → Prop} {a1 : Nat} {a2 : Nat} {a3 : Nat} {a4 : Nat} {a5 : Nat} {a6 : Nat} {a7 : Nat} {a8 : Nat} {a9 : Nat} {a10 : Nat} {m11 : Nat} {a12 : Nat} {a13 : Nat} (o1 : Lk G w a7 (.inl (nX8, [.ref a8, .ref a9, .ref a10]))) (o2 : Lk G w a5 (.inl (nX7, [.int (nI m11), .ref a12, .ref a13]))) {Q3 : Rs → Wd → Prop} (e3 : Ev G mX8_moved [.ref a7, .ref a2] w Q3) (k3 : ∀ r w', Q3 r w' → Af G mX1_join 160 163 [(0, .ref a1), (1, .ref a2), (2, .ref a3), (3, .ref a4), (5, .ref a5), (6, .ref a6)] [.ref a13] r w' Q) : Rn G mX1_join 147 [(0, .ref a1), (1, .ref a2), (2, .ref a3), (3, .ref a4), (5, .ref a5), (6, .ref a6)] [.ref a7] w Q := by
  refine r_castS (C := RX8) (TT := TX8) (NN := 3) rfl q1690 53 150 rfl rfl o1 ?_
  refine r_astore (lv' := [(7, .ref a7), (0, .ref a1), (1, .ref a2), (2, .ref a3), (3, .ref a4), (5, .ref a5), (6, .ref a6)]) 54 152 rfl rfl (Nat.le_of_ble_eq_true rfl) rfl ?_
  refine r_aload 55 154 5 rfl rfl rfl ?_
  refine r_get (v := .ref a13) fl_X1_155_X7 56 157 rfl rfl o2 rfl ?_
  refine r_aload 57 159 0 rfl rfl rfl ?_
  refine r_aload_n 58 160 2 rfl rfl rfl ?_
  exact r_callV lkV_X1_283_X8 (C := RX8) (TT := TX8) (NN := 3) rfl o1 59 163 rfl rfl (by decide) [.ref a2] rfl rfl (Nat.le_of_ble_eq_true rfl) (Nat.le_of_ble_eq_true rfl) e3 (fun r w' h => Af.sub [1, 2, 3, 4, 5, 6] rfl (k3 r w' h))
theorem e_X1_join_184 {G : Gm} {κ : Nat → Nat} {φ : Nat → Option Nat} (hS : GS G κ φ) {w : Wd} {Q : Rs → Wd → Prop} {a1 : Nat} {a2 : Nat} {a3 : Nat} {a4 : Nat} {p5 : Option Nat} {m7 : Nat} {a8 : Nat} {a9 : Nat} (k1 : p5 = none → Rn G mX1_join 26 [(0, .ref a1), (1, .ref a2), (2, .ref a3), (3, .ref a4)] [] w Q) (o2 : ∀ pa6 : Nat, p5 = some pa6 → Lk G w pa6 (.inl (nX7, [.int (nI m7), .ref a8, .ref a9]))) (k3 : ∀ pa6 : Nat, p5 = some pa6 → Rn G mX1_join 26 [(0, .ref a1), (1, .ref a2), (2, .ref a3), (3, .ref a4)] [] w Q) : Rn G mX1_join 184 [(0, .ref a1), (1, .ref a2), (2, .ref a3), (3, .ref a4)] [va_rf p5] w Q := by
  cases p5 with
  | none =>
    refine r_castN 69 187 rfl rfl ?_
    refine r_astoreN (lv' := [(6, .null), (0, .ref a1), (1, .ref a2), (2, .ref a3), (3, .ref a4)]) 70 189 rfl rfl (Nat.le_of_ble_eq_true rfl) rfl ?_
    refine r_goto 71 26 rfl rfl ?_
    exact r_sub [1, 2, 3, 4] rfl (k1 rfl)
  | some pa6 =>
    refine r_castS (C := RX7) (TT := TX7) (NN := 3) rfl q1392 69 187 rfl rfl (o2 pa6 rfl) ?_
    refine r_astore (lv' := [(6, .ref pa6), (0, .ref a1), (1, .ref a2), (2, .ref a3), (3, .ref a4)]) 70 189 rfl rfl (Nat.le_of_ble_eq_true rfl) rfl ?_
    refine r_goto 71 26 rfl rfl ?_
    exact r_sub [1, 2, 3, 4] rfl (k3 pa6 rfl)
theorem e_X1_join_163 {G : Gm} {κ : Nat → Nat} {φ : Nat → Option Nat} (hS : GS G κ φ) {w : Wd} {Q : Rs → Wd → Prop} {a1 : Nat} {a2 : Nat} {a3 : Nat} {a4 : Nat} {a5 : Nat} {a6 : Nat} {a7 : Nat} {a8 : Nat} {x9 : Int32} {a10 : Nat} {m11 : Nat} (o1 : Lk G w a8 (.inl (nJ6, [.int x9, .ref a10, .int (nI m11)]))) {Q2 : Rs → Wd → Prop} (e2 : Ev G mJ6_add [.ref a8, .ref a7] w Q2) (k2 : ∀ r w', Q2 r w' → Af G mX1_join 163 166 [(0, .ref a1), (1, .ref a2), (2, .ref a3), (3, .ref a4), (5, .ref a5), (6, .ref a6)] [] r w' Q) : Rn G mX1_join 163 [(0, .ref a1), (1, .ref a2), (2, .ref a3), (3, .ref a4), (5, .ref a5), (6, .ref a6)] [.ref a7, .ref a8] w Q := by
  exact r_callV lkV_X1_74_J6 (C := RJ6) (TT := TJ6) (NN := 3) rfl o1 60 166 rfl rfl (by decide) [.ref a7] rfl rfl (Nat.le_of_ble_eq_true rfl) (Nat.le_of_ble_eq_true rfl) e2 (fun r w' h => Af.sub [0, 1, 2, 3, 4, 5] rfl (k2 r w' h))
theorem e_X1_join_166 {G : Gm} {κ : Nat → Nat} {φ : Nat → Option Nat} (hS : GS G κ φ) {w : Wd} {Q : Rs → Wd → Prop} {a1 : Nat} {a2 : Nat} {a3 : Nat} {a4 : Nat} {a5 : Nat} {a6 : Nat} {x7 : Int32} (k1 : Rn G mX1_join 130 [(0, .ref a1), (1, .ref a2), (2, .ref a3), (3, .ref a4), (5, .ref a5), (6, .ref a6)] [] w Q) : Rn G mX1_join 166 [(0, .ref a1), (1, .ref a2), (2, .ref a3), (3, .ref a4), (5, .ref a5), (6, .ref a6)] [.int x7] w Q := by
  refine r_pop 61 167 rfl rfl rfl ?_
  refine r_goto 62 130 rfl rfl ?_
  exact k1
theorem e_X1_differs {G : Gm} {κ : Nat → Nat} {φ : Nat → Option Nat} (hS : GS G κ φ) {w : Wd} {Q : Rs → Wd → Prop} {a1 : Nat} {x2 : Int32} {x3 : Int32} {a4 : Nat} {a5 : Nat} {a6 : Nat} {a7 : Nat} {p8 : Option Nat} {p9 : Option Nat} {p10 : Option Nat} {m11 : Nat} {x12 : Int32} {p13 : Option Nat} {p14 : Option Nat} {p15 : Option Nat} (hg : 1012 ≤ w.2.2) (k1 : x2 < 0 → Q (.inr w.2.1) (wnew w (.inl (nJ12, [.null])) 6)) (o2 : Lk G w a1 (.inl (nX1, [.ref a4, .ref a5, .ref a6, .ref a7]))) (o3 : Lk G w a7 (.inl (nJ8, [va_rf p8, va_rf p9, .null, va_rf p10, .int (nI m11), .int x12, va_rf p13, va_rf p14, va_rf p15]))) {Q4 : Rs → Wd → Prop} (e4 : ¬ x2 < 0 → x3 = 0 → Ev G mJ8_entrySet [.ref a7] (wnew w (arR "ExchangeText$Line" 1000 (fun _ => none)) 1000) Q4) (k4 : ¬ x2 < 0 → x3 = 0 → ∀ r w', Q4 r w' → Af G mX1_differs 35 38 [(0, .ref a1), (2, .int x3), (3, .int x2), (4, .ref w.2.1)] [] r w' Q) (k5 : ¬ x2 < 0 → ¬ x3 = 0 → ¬ x3 = 1 → Q (.inr w.2.1) (wnew w (.inl (nJ12, [.null])) 6)) {Q6 : Rs → Wd → Prop} (e6 : ¬ x2 < 0 → ¬ x3 = 0 → x3 = 1 → Ev G mJ8_entrySet [.ref a7] (wnew w (arR "ExchangeText$Line" 1000 (fun _ => none)) 1000) Q6) (k6 : ¬ x2 < 0 → ¬ x3 = 0 → x3 = 1 → ∀ r w', Q6 r w' → Af G mX1_differs 35 38 [(0, .ref a1), (2, .int x3), (3, .int x2), (4, .ref w.2.1)] [] r w' Q) : Ev G mX1_differs [.ref a1, .int x2, .int x3] w Q := by
  show Rn G mX1_differs 0 [(0, .ref a1), (1, .int x2), (2, .int x3)] [] w Q
  refine Rn.wok fun hwk => ?_
  refine r_iload_n 0 1 1 rfl rfl rfl ?_
  refine r_if_lt 1 4 17 rfl rfl rfl (fun c1 => ?_) (fun c1 => ?_)
  · refine r_iconst 9 18 rfl rfl di_0 ?_
    refine r_callS lkS_X1_38 10 21 rfl rfl (by decide) [.int 0] rfl rfl (Nat.le_of_ble_eq_true rfl) (Nat.le_of_ble_eq_true rfl) (e_X1_need hS (hg := by show 18 ≤ w.2.2; omega) (k1 := fun z0 => absurd z0 (by decide)) (k2 := fun z1_0 => ?_)) (fun _ _ h => h)
    show Th G mX1_differs 18 [(0, .ref a1), (1, .int x2), (2, .int x3)] [] w.2.1 (wnew w (.inl (nJ12, [.null])) 6) _
    exact th_out rfl (k1 c1)
  · refine r_iload_n 2 5 2 rfl rfl rfl ?_
    refine r_if_eq 3 8 13 rfl rfl rfl (fun c2 => ?_) (fun c2 => ?_)
    · refine r_iconst 7 14 rfl rfl di_1 ?_
      refine r_goto 8 18 rfl rfl ?_
      refine r_callS lkS_X1_38 10 21 rfl rfl (by decide) [.int 1] rfl rfl (Nat.le_of_ble_eq_true rfl) (Nat.le_of_ble_eq_true rfl) (e_X1_need hS (hg := by show 18 ≤ w.2.2; omega) (k2 := fun z0 => absurd z0 (by decide)) (k1 := fun z2_0 => ?_)) (fun _ _ h => h)
      show Rn G mX1_differs 21 [(0, .ref a1), (1, .int x2), (2, .int x3)] [] w _
      refine r_iload_n 11 22 1 rfl rfl rfl ?_
      refine r_istore_n (lv' := [(3, .int x2), (0, .ref a1), (1, .int x2), (2, .int x3)]) 12 23 rfl rfl (Nat.le_of_ble_eq_true rfl) rfl ?_
      refine r_sipush 13 26 rfl rfl ds_1000 ?_
      refine y_newR (n := 1000) 14 29 rfl rfl q1392 q1880 (by decide) (by decide) (by show 12 + 1000 ≤ w.2.2; omega) ?_
      show Rn G mX1_differs 29 [(3, .int x2), (0, .ref a1), (1, .int x2), (2, .int x3)] [.ref w.2.1] (wnew w (arR "ExchangeText$Line" 1000 (fun _ => none)) 1000) _
      refine r_astore (lv' := [(4, .ref w.2.1), (3, .int x2), (0, .ref a1), (1, .int x2), (2, .int x3)]) 15 31 rfl rfl (Nat.le_of_ble_eq_true rfl) rfl ?_
      refine r_aload_n 16 32 2 rfl rfl rfl ?_
      refine r_get (v := .ref a7) fl_X1_30_X1 17 35 rfl rfl (Lk.new_n o2 (by have := (o2.lt hwk); show a1 < w.2.1; omega)) rfl ?_
      exact r_callV lkV_X1_130_J8 (C := RJ8) (TT := TJ8) (NN := 9) rfl (Lk.new_n o3 (by have := (o3.lt hwk); show a7 < w.2.1; omega)) 18 38 rfl rfl (by decide) [] rfl rfl (Nat.le_of_ble_eq_true rfl) (Nat.le_of_ble_eq_true rfl) (e4 c1 c2) (fun r w' h => Af.sub [2, 4, 1, 0] rfl ((k4 c1 c2) r w' h))
    · refine r_iload_n 4 9 2 rfl rfl rfl ?_
      refine r_iconst 5 10 rfl rfl di_1 ?_
      refine r_icmp_ne 6 13 17 rfl rfl rfl (fun c3 => ?_) (fun c3 => ?_)
      · refine r_iconst 9 18 rfl rfl di_0 ?_
        refine r_callS lkS_X1_38 10 21 rfl rfl (by decide) [.int 0] rfl rfl (Nat.le_of_ble_eq_true rfl) (Nat.le_of_ble_eq_true rfl) (e_X1_need hS (hg := by show 18 ≤ w.2.2; omega) (k1 := fun z0 => absurd z0 (by decide)) (k2 := fun z3_0 => ?_)) (fun _ _ h => h)
        show Th G mX1_differs 18 [(0, .ref a1), (1, .int x2), (2, .int x3)] [] w.2.1 (wnew w (.inl (nJ12, [.null])) 6) _
        exact th_out rfl (k5 c1 c2 c3)
      · refine r_iconst 7 14 rfl rfl di_1 ?_
        refine r_goto 8 18 rfl rfl ?_
        refine r_callS lkS_X1_38 10 21 rfl rfl (by decide) [.int 1] rfl rfl (Nat.le_of_ble_eq_true rfl) (Nat.le_of_ble_eq_true rfl) (e_X1_need hS (hg := by show 18 ≤ w.2.2; omega) (k2 := fun z0 => absurd z0 (by decide)) (k1 := fun z3_0 => ?_)) (fun _ _ h => h)
        show Rn G mX1_differs 21 [(0, .ref a1), (1, .int x2), (2, .int x3)] [] w _
        refine r_iload_n 11 22 1 rfl rfl rfl ?_
        refine r_istore_n (lv' := [(3, .int x2), (0, .ref a1), (1, .int x2), (2, .int x3)]) 12 23 rfl rfl (Nat.le_of_ble_eq_true rfl) rfl ?_
        refine r_sipush 13 26 rfl rfl ds_1000 ?_
        refine y_newR (n := 1000) 14 29 rfl rfl q1392 q1880 (by decide) (by decide) (by show 12 + 1000 ≤ w.2.2; omega) ?_
        show Rn G mX1_differs 29 [(3, .int x2), (0, .ref a1), (1, .int x2), (2, .int x3)] [.ref w.2.1] (wnew w (arR "ExchangeText$Line" 1000 (fun _ => none)) 1000) _
        refine r_astore (lv' := [(4, .ref w.2.1), (3, .int x2), (0, .ref a1), (1, .int x2), (2, .int x3)]) 15 31 rfl rfl (Nat.le_of_ble_eq_true rfl) rfl ?_
        refine r_aload_n 16 32 2 rfl rfl rfl ?_
        refine r_get (v := .ref a7) fl_X1_30_X1 17 35 rfl rfl (Lk.new_n o2 (by have := (o2.lt hwk); show a1 < w.2.1; omega)) rfl ?_
        exact r_callV lkV_X1_130_J8 (C := RJ8) (TT := TJ8) (NN := 9) rfl (Lk.new_n o3 (by have := (o3.lt hwk); show a7 < w.2.1; omega)) 18 38 rfl rfl (by decide) [] rfl rfl (Nat.le_of_ble_eq_true rfl) (Nat.le_of_ble_eq_true rfl) (e6 c1 c2 c3) (fun r w' h => Af.sub [2, 4, 1, 0] rfl ((k6 c1 c2 c3) r w' h))
theorem e_X1_differs_38 {G : Gm} {κ : Nat → Nat} {φ : Nat → Option Nat} (hS : GS G κ φ) {w : Wd} {Q : Rs → Wd → Prop} {a1 : Nat} {x2 : Int32} {x3 : Int32} {a4 : Nat} {a5 : Nat} {a6 : Nat} (o1 : Lk G w a5 (.inl (nJ31, [.ref a6]))) {Q2 : Rs → Wd → Prop} (e2 : Ev G mJ31_iterator [.ref a5] w Q2) (k2 : ∀ r w', Q2 r w' → Af G mX1_differs 38 43 [(0, .ref a1), (2, .int x2), (3, .int x3), (4, .ref a4)] [] r w' Q) : Rn G mX1_differs 38 [(0, .ref a1), (2, .int x2), (3, .int x3), (4, .ref a4)] [.ref a5] w Q := by
  exact r_callF lkF_X1_134_J31 (C := RJ31) (TT := TJ31) (NN := 1) rfl o1 19 43 rfl rfl (by decide) [] rfl rfl (Nat.le_of_ble_eq_true rfl) (Nat.le_of_ble_eq_true rfl) e2 (fun r w' h => Af.sub [0, 1, 2, 3] rfl (k2 r w' h))
theorem e_X1_differs_43 {G : Gm} {κ : Nat → Nat} {φ : Nat → Option Nat} (hS : GS G κ φ) {w : Wd} {Q : Rs → Wd → Prop} {a1 : Nat} {x2 : Int32} {x3 : Int32} {a4 : Nat} {a5 : Nat} (k1 : Rn G mX1_differs 45 [(0, .ref a1), (2, .int x2), (3, .int x3), (4, .ref a4), (5, .ref a5)] [] w Q) : Rn G mX1_differs 43 [(0, .ref a1), (2, .int x2), (3, .int x3), (4, .ref a4)] [.ref a5] w Q := by
  refine r_astore (lv' := [(5, .ref a5), (0, .ref a1), (2, .int x2), (3, .int x3), (4, .ref a4)]) 20 45 rfl rfl (Nat.le_of_ble_eq_true rfl) rfl ?_
  exact r_sub [1, 2, 3, 4, 0] rfl k1
theorem e_X1_differs_45 {G : Gm} {κ : Nat → Nat} {φ : Nat → Option Nat} (hS : GS G κ φ) {w : Wd} {Q : Rs → Wd → Prop} {a1 : Nat} {x2 : Int32} {x3 : Int32} {a4 : Nat} {a5 : Nat} {p6 : Option Nat} {p7 : Option Nat} {x8 : Int32} {a9 : Nat} (o1 : Lk G w a5 (.inl (nJ33, [va_rf p6, va_rf p7, .int x8, .ref a9]))) {Q2 : Rs → Wd → Prop} (e2 : Ev G mJ32_hasNext [.ref a5] w Q2) (k2 : ∀ r w', Q2 r w' → Af G mX1_differs 47 52 [(0, .ref a1), (2, .int x2), (3, .int x3), (4, .ref a4), (5, .ref a5)] [] r w' Q) : Rn G mX1_differs 45 [(0, .ref a1), (2, .int x2), (3, .int x3), (4, .ref a4), (5, .ref a5)] [] w Q := by
  refine r_aload 21 47 4 rfl rfl rfl ?_
  exact r_callF lkF_X1_110_J33 (C := RJ33) (TT := TJ33) (NN := 4) rfl o1 22 52 rfl rfl (by decide) [] rfl rfl (Nat.le_of_ble_eq_true rfl) (Nat.le_of_ble_eq_true rfl) e2 (fun r w' h => Af.sub [0, 1, 2, 3, 4] rfl (k2 r w' h))
theorem e_X1_differs_52 {G : Gm} {κ : Nat → Nat} {φ : Nat → Option Nat} (hS : GS G κ φ) {w : Wd} {Q : Rs → Wd → Prop} {a1 : Nat} {x2 : Int32} {x3 : Int32} {a4 : Nat} {a5 : Nat} {x6 : Int32} {a7 : Nat} {a8 : Nat} {a9 : Nat} {a10 : Nat} {p11 : Option Nat} {p12 : Option Nat} {x13 : Int32} {a14 : Nat} (o1 : Lk G w a1 (.inl (nX1, [.ref a7, .ref a8, .ref a9, .ref a10]))) {Q2 : Rs → Wd → Prop} (e2 : x6 = 0 → Ev G mX1_table [.ref a1] w Q2) (k2 : x6 = 0 → ∀ r w', Q2 r w' → Af G mX1_differs 97 100 [(2, .int x2), (3, .int x3), (4, .ref a4)] [] r w' Q) (o3 : Lk G w a5 (.inl (nJ33, [va_rf p11, va_rf p12, .int x13, .ref a14]))) {Q4 : Rs → Wd → Prop} (e4 : ¬ x6 = 0 → Ev G mJ33_next [.ref a5] w Q4) (k4 : ¬ x6 = 0 → ∀ r w', Q4 r w' → Af G mX1_differs 57 62 [(0, .ref a1), (2, .int x2), (3, .int x3), (4, .ref a4), (5, .ref a5)] [] r w' Q) : Rn G mX1_differs 52 [(0, .ref a1), (2, .int x2), (3, .int x3), (4, .ref a4), (5, .ref a5)] [.int x6] w Q := by
  refine r_if_eq 23 55 96 rfl rfl rfl (fun c1 => ?_) (fun c1 => ?_)
  · refine r_aload_n 38 97 0 rfl rfl rfl ?_
    exact r_callV lkV_X1_266_X1 (C := RX1) (TT := TX1) (NN := 4) rfl o1 39 100 rfl rfl (by decide) [] rfl rfl (Nat.le_of_ble_eq_true rfl) (Nat.le_of_ble_eq_true rfl) (e2 c1) (fun r w' h => Af.sub [1, 2, 3] rfl ((k2 c1) r w' h))
  · refine r_aload 24 57 4 rfl rfl rfl ?_
    exact r_callF lkF_X1_115_J33 (C := RJ33) (TT := TJ33) (NN := 4) rfl o3 25 62 rfl rfl (by decide) [] rfl rfl (Nat.le_of_ble_eq_true rfl) (Nat.le_of_ble_eq_true rfl) (e4 c1) (fun r w' h => Af.sub [0, 1, 2, 3, 4] rfl ((k4 c1) r w' h))
theorem e_X1_differs_100 {G : Gm} {κ : Nat → Nat} {φ : Nat → Option Nat} (hS : GS G κ φ) {w : Wd} {Q : Rs → Wd → Prop} {x1 : Int32} {x2 : Int32} {a3 : Nat} {a4 : Nat} (k1 : Rn G mX1_differs 105 [(2, .int x1), (3, .int x2), (4, .ref a3), (5, .ref a4), (6, .int 1)] [] w Q) : Rn G mX1_differs 100 [(2, .int x1), (3, .int x2), (4, .ref a3)] [.ref a4] w Q := by
  refine r_astore (lv' := [(5, .ref a4), (2, .int x1), (3, .int x2), (4, .ref a3)]) 40 102 rfl rfl (Nat.le_of_ble_eq_true rfl) rfl ?_
  refine r_iconst 41 103 rfl rfl di_1 ?_
  refine r_istore (lv' := [(6, .int 1), (5, .ref a4), (2, .int x1), (3, .int x2), (4, .ref a3)]) 42 105 rfl rfl (Nat.le_of_ble_eq_true rfl) rfl ?_
  exact r_sub [2, 3, 4, 1, 0] rfl k1
theorem e_X1_differs_62 {G : Gm} {κ : Nat → Nat} {φ : Nat → Option Nat} (hS : GS G κ φ) {w : Wd} {Q : Rs → Wd → Prop} {a1 : Nat} {x2 : Int32} {x3 : Int32} {a4 : Nat} {a5 : Nat} {a6 : Nat} {a7 : Nat} {a8 : Nat} {p9 : Option Nat} {p10 : Option Nat} {p11 : Option Nat} {x12 : Int32} {m13 : Nat} {a14 : Nat} {a15 : Nat} {n16 : Nat} {g17 : Nat → Option Nat} (o1 : Lk G w a6 (.inl (nJ29, [.ref a7, .ref a8, va_rf p9, va_rf p10, va_rf p11, .int x12]))) (o2 : Lk G w a8 (.inl (nX7, [.int (nI m13), .ref a14, .ref a15]))) (o3 : w.1 a4 = some (arR "java/lang/Object" n16 g17)) (b4 : m13 < n16) (bd5 : n16 < 2 ^ 31) (q6 : OkO G w (.ref a8)) (k7 : Rn G mX1_differs 45 [(0, .ref a1), (2, .int x2), (3, .int x3), (4, .ref a4), (5, .ref a5)] [] (wset w a4 (arR "java/lang/Object" n16 (upF g17 m13 (some a8)))) Q) : Rn G mX1_differs 62 [(0, .ref a1), (2, .int x2), (3, .int x3), (4, .ref a4), (5, .ref a5)] [.ref a6] w Q := by
  refine r_castY (C := RJ29) (TT := TJ29) (NN := 6) rfl q1472 q1477 26 65 rfl rfl o1 ?_
  refine r_astore (lv' := [(6, .ref a6), (0, .ref a1), (2, .int x2), (3, .int x3), (4, .ref a4), (5, .ref a5)]) 27 67 rfl rfl (Nat.le_of_ble_eq_true rfl) rfl ?_
  refine r_aload 28 69 4 rfl rfl rfl ?_
  refine r_aload 29 71 0 rfl rfl rfl ?_
  refine r_callF lkF_X1_139_J29 (C := RJ29) (TT := TJ29) (NN := 6) rfl o1 30 76 rfl rfl (by decide) [] rfl rfl (Nat.le_of_ble_eq_true rfl) (Nat.le_of_ble_eq_true rfl) (e_J29_getValue hS (p6 := p11) (p5 := p10) (p4 := p9) (o1 := o1) (k2 := ?_)) (fun _ _ h => h)
  show Rn G mX1_differs 76 [(6, .ref a6), (0, .ref a1), (2, .int x2), (3, .int x3), (4, .ref a4), (5, .ref a5)] [.ref a8, .ref a4] w _
  refine r_castS (C := RX7) (TT := TX7) (NN := 3) rfl q1392 31 79 rfl rfl o2 ?_
  refine r_get (v := .int (nI m13)) fl_X1_91_X7 32 82 rfl rfl o2 rfl ?_
  refine r_aload 33 84 0 rfl rfl rfl ?_
  refine r_callF lkF_X1_139_J29 (C := RJ29) (TT := TJ29) (NN := 6) rfl o1 34 89 rfl rfl (by decide) [] rfl rfl (Nat.le_of_ble_eq_true rfl) (Nat.le_of_ble_eq_true rfl) (e_J29_getValue hS (p6 := p11) (p5 := p10) (p4 := p9) (o1 := o1) (k2 := ?_)) (fun _ _ h => h)
  show Rn G mX1_differs 89 [(6, .ref a6), (0, .ref a1), (2, .int x2), (3, .int x3), (4, .ref a4), (5, .ref a5)] [.ref a8, .int (nI m13), .ref a4] w _
  refine r_castS (C := RX7) (TT := TX7) (NN := 3) rfl q1392 35 92 rfl rfl o2 ?_
  refine y_aastO (i := m13) 36 93 rfl rfl o3 q6 b4 bd5 ?_
  show Rn G mX1_differs 93 [(6, .ref a6), (0, .ref a1), (2, .int x2), (3, .int x3), (4, .ref a4), (5, .ref a5)] [] (wset w a4 (arR "java/lang/Object" n16 (upF g17 m13 (some a8)))) _
  refine r_goto 37 45 rfl rfl ?_
  exact r_sub [1, 2, 3, 4, 5] rfl k7
theorem e_X1_differs_105 {G : Gm} {κ : Nat → Nat} {φ : Nat → Option Nat} (hS : GS G κ φ) {w : Wd} {Q : Rs → Wd → Prop} {x1 : Int32} {x2 : Int32} {a3 : Nat} {a4 : Nat} {m5 : Nat} {n6 : Nat} {g7 : Nat → Option Nat} {a8 : Nat} {n9 : Nat} {g10 : Nat → Option Nat} {a11 : Nat} {m12 : Nat} {a13 : Nat} {a14 : Nat} (bd1 : m5 < 2 ^ 31) (k2 : 1000 ≤ m5 → Q (.inl (some (.int (-1)))) w) (o3 : Lk G w a4 (arR "java/lang/Object" n6 g7)) (b4 : ¬ 1000 ≤ m5 → m5 < n6) (bd5 : n6 < 2 ^ 31) (q6 : ¬ 1000 ≤ m5 → (g7 m5) = some a8) (o7 : Lk G w a3 (arR "java/lang/Object" n9 g10)) (b8 : ¬ 1000 ≤ m5 → m5 < n9) (bd9 : n9 < 2 ^ 31) (q10 : ¬ 1000 ≤ m5 → (g10 m5) = some a11) (k11 : ¬ 1000 ≤ m5 → a8 = a11 → Rn G mX1_differs 105 [(2, .int x1), (3, .int x2), (4, .ref a3), (5, .ref a4), (6, .int (nI (m5 + 1)))] [] w Q) (o12 : Lk G w a8 (.inl (nX7, [.int (nI m12), .ref a13, .ref a14]))) {Q13 : Rs → Wd → Prop} (e13 : ¬ 1000 ≤ m5 → ¬ a8 = a11 → Ev G mX7_isSame [.ref a8, .ref a11] w Q13) (k13 : ¬ 1000 ≤ m5 → ¬ a8 = a11 → ∀ r w', Q13 r w' → Af G mX1_differs 148 151 [(2, .int x1), (3, .int x2), (4, .ref a3), (5, .ref a4), (6, .int (nI m5)), (7, .ref a8), (8, .ref a11)] [] r w' Q) : Rn G mX1_differs 105 [(2, .int x1), (3, .int x2), (4, .ref a3), (5, .ref a4), (6, .int (nI m5))] [] w Q := by
  refine r_iload 43 107 4 rfl rfl rfl ?_
  refine r_sipush 44 110 rfl rfl ds_1000 ?_
  refine y_icmp_ge (a := m5) (b := 1000) bd1 (by decide) 45 113 209 rfl rfl rfl (fun c1 => ?_) (fun c1 => ?_)
  · refine r_iconst 90 210 rfl rfl di_m1 ?_
    exact r_iret 91 rfl rfl rfl (k2 c1)
  · refine r_aload 46 115 3 rfl rfl rfl ?_
    refine r_iload 47 117 4 rfl rfl rfl ?_
    refine y_aald (i := m5) 48 118 rfl rfl o3 (b4 c1) bd5 (q6 c1) ?_
    show Rn G mX1_differs 118 [(2, .int x1), (3, .int x2), (4, .ref a3), (5, .ref a4), (6, .int (nI m5))] [.ref a8] w _
    refine r_astore (lv' := [(7, .ref a8), (2, .int x1), (3, .int x2), (4, .ref a3), (5, .ref a4), (6, .int (nI m5))]) 49 120 rfl rfl (Nat.le_of_ble_eq_true rfl) rfl ?_
    refine r_aload 50 122 3 rfl rfl rfl ?_
    refine r_iload 51 124 5 rfl rfl rfl ?_
    refine y_aald (i := m5) 52 125 rfl rfl o7 (b8 c1) bd9 (q10 c1) ?_
    show Rn G mX1_differs 125 [(7, .ref a8), (2, .int x1), (3, .int x2), (4, .ref a3), (5, .ref a4), (6, .int (nI m5))] [.ref a11] w _
    refine r_astore (lv' := [(8, .ref a11), (7, .ref a8), (2, .int x1), (3, .int x2), (4, .ref a3), (5, .ref a4), (6, .int (nI m5))]) 53 127 rfl rfl (Nat.le_of_ble_eq_true rfl) rfl ?_
    refine r_aload 54 129 1 rfl rfl rfl ?_
    refine r_aload 55 131 0 rfl rfl rfl ?_
    refine r_acmp_eq (rx := (some a8)) (ry := (some a11)) 56 134 154 rfl rfl rfl rfl rfl (fun c2 => ?_) (fun c2 => ?_)
    · refine r_iconst 65 155 rfl rfl di_0 ?_
      refine r_goto 66 177 rfl rfl ?_
      refine r_istore (lv' := [(9, .int 0), (8, .ref a11), (7, .ref a8), (2, .int x1), (3, .int x2), (4, .ref a3), (5, .ref a4), (6, .int (nI m5))]) 76 179 rfl rfl (Nat.le_of_ble_eq_true rfl) rfl ?_
      refine r_iload 77 181 0 rfl rfl rfl ?_
      refine r_if_eq 78 184 203 rfl rfl rfl (fun _ => ?_) (fun c => absurd c (by decide))
      refine r_iinc (v := (nI (m5 + 1))) (lv' := [(6, .int (nI (m5 + 1))), (9, .int 0), (8, .ref a11), (7, .ref a8), (2, .int x1), (3, .int x2), (4, .ref a3), (5, .ref a4)]) 88 206 7 rfl rfl rfl (by rw [di_1]; exact nI_add _ _) (Nat.le_of_ble_eq_true rfl) rfl ?_
      refine r_goto 89 105 rfl rfl ?_
      exact r_sub [4, 5, 6, 7, 0] rfl (k11 c1 (Option.some.inj c2))
    · refine r_aload 57 136 1 rfl rfl rfl ?_
      refine r_ifnull 58 139 rfl rfl ?_
      refine r_aload 59 141 0 rfl rfl rfl ?_
      refine r_ifnull 60 144 rfl rfl ?_
      refine r_aload 61 146 1 rfl rfl rfl ?_
      refine r_aload 62 148 0 rfl rfl rfl ?_
      exact r_callV lkV_X1_295_X7 (C := RX7) (TT := TX7) (NN := 3) rfl o12 63 151 rfl rfl (by decide) [.ref a11] rfl rfl (Nat.le_of_ble_eq_true rfl) (Nat.le_of_ble_eq_true rfl) (e13 c1 (fun h => c2 (congrArg some h))) (fun r w' h => Af.sub [2, 3, 4, 5, 6, 1, 0] rfl ((k13 c1 (fun h => c2 (congrArg some h))) r w' h))
theorem e_X1_differs_151 {G : Gm} {κ : Nat → Nat} {φ : Nat → Option Nat} (hS : GS G κ φ) {w : Wd} {Q : Rs → Wd → Prop} {x1 : Int32} {x2 : Int32} {a3 : Nat} {a4 : Nat} {m5 : Nat} {a6 : Nat} {a7 : Nat} {x8 : Int32} (k1 : x8 = 0 → ¬ x2 = 0 → Rn G mX1_differs 105 [(2, .int x1), (3, .int (x2 + (-1))), (4, .ref a3), (5, .ref a4), (6, .int (nI (m5 + 1)))] [] w Q) (k2 : x8 = 0 → x2 = 0 → ¬ x1 = 0 → Q (.inl (some (.int 3))) w) (k3 : x8 = 0 → x2 = 0 → x1 = 0 → Q (.inl (some (.int (nI m5)))) w) (k4 : ¬ x8 = 0 → Rn G mX1_differs 105 [(2, .int x1), (3, .int x2), (4, .ref a3), (5, .ref a4), (6, .int (nI (m5 + 1)))] [] w Q) : Rn G mX1_differs 151 [(2, .int x1), (3, .int x2), (4, .ref a3), (5, .ref a4), (6, .int (nI m5)), (7, .ref a6), (8, .ref a7)] [.int x8] w Q := by
  refine r_if_eq 64 154 158 rfl rfl rfl (fun c1 => ?_) (fun c1 => ?_)
  · refine r_aload 67 160 5 rfl rfl rfl ?_
    refine r_ifnonnull 68 167 rfl rfl ?_
    refine r_aload 71 169 6 rfl rfl rfl ?_
    refine r_ifnonnull 72 176 rfl rfl ?_
    refine r_iconst 75 177 rfl rfl di_3 ?_
    refine r_istore (lv' := [(9, .int 3), (2, .int x1), (3, .int x2), (4, .ref a3), (5, .ref a4), (6, .int (nI m5)), (7, .ref a6), (8, .ref a7)]) 76 179 rfl rfl (Nat.le_of_ble_eq_true rfl) rfl ?_
    refine r_iload 77 181 0 rfl rfl rfl ?_
    refine r_if_eq 78 184 203 rfl rfl rfl (fun c => absurd c (by decide)) (fun _ => ?_)
    refine r_iload_n 79 185 2 rfl rfl rfl ?_
    refine r_if_ne 80 188 200 rfl rfl rfl (fun c2 => ?_) (fun c2 => ?_)
    · refine r_iinc (v := (x2 + (-1))) (lv' := [(3, .int (x2 + (-1))), (9, .int 3), (2, .int x1), (4, .ref a3), (5, .ref a4), (6, .int (nI m5)), (7, .ref a6), (8, .ref a7)]) 87 203 2 rfl rfl rfl (congrArg (fun z => x2 + z) di_m1) (Nat.le_of_ble_eq_true rfl) rfl ?_
      refine r_iinc (v := (nI (m5 + 1))) (lv' := [(6, .int (nI (m5 + 1))), (3, .int (x2 + (-1))), (9, .int 3), (2, .int x1), (4, .ref a3), (5, .ref a4), (7, .ref a6), (8, .ref a7)]) 88 206 5 rfl rfl rfl (by rw [di_1]; exact nI_add _ _) (Nat.le_of_ble_eq_true rfl) rfl ?_
      refine r_goto 89 105 rfl rfl ?_
      exact r_sub [3, 1, 4, 5, 0] rfl (k1 c1 c2)
    · refine r_iload_n 81 189 1 rfl rfl rfl ?_
      refine r_if_ne 82 192 197 rfl rfl rfl (fun c3 => ?_) (fun c3 => ?_)
      · refine r_iload 85 199 0 rfl rfl rfl ?_
        exact r_iret 86 rfl rfl rfl (k2 c1 c2 c3)
      · refine r_iload 83 194 5 rfl rfl rfl ?_
        refine r_goto 84 199 rfl rfl ?_
        exact r_iret 86 rfl rfl rfl (k3 c1 c2 c3)
  · refine r_iconst 65 155 rfl rfl di_0 ?_
    refine r_goto 66 177 rfl rfl ?_
    refine r_istore (lv' := [(9, .int 0), (2, .int x1), (3, .int x2), (4, .ref a3), (5, .ref a4), (6, .int (nI m5)), (7, .ref a6), (8, .ref a7)]) 76 179 rfl rfl (Nat.le_of_ble_eq_true rfl) rfl ?_
    refine r_iload 77 181 0 rfl rfl rfl ?_
    refine r_if_eq 78 184 203 rfl rfl rfl (fun _ => ?_) (fun c => absurd c (by decide))
    refine r_iinc (v := (nI (m5 + 1))) (lv' := [(6, .int (nI (m5 + 1))), (9, .int 0), (2, .int x1), (3, .int x2), (4, .ref a3), (5, .ref a4), (7, .ref a6), (8, .ref a7)]) 88 206 5 rfl rfl rfl (by rw [di_1]; exact nI_add _ _) (Nat.le_of_ble_eq_true rfl) rfl ?_
    refine r_goto 89 105 rfl rfl ?_
    exact r_sub [2, 3, 4, 5, 0] rfl (k4 c1)
theorem e_X1_count {G : Gm} {κ : Nat → Nat} {φ : Nat → Option Nat} (hS : GS G κ φ) {w : Wd} {Q : Rs → Wd → Prop} {a1 : Nat} {x2 : Int32} {a3 : Nat} {a4 : Nat} {a5 : Nat} {a6 : Nat} {p7 : Option Nat} {p8 : Option Nat} {p9 : Option Nat} {m10 : Nat} {x11 : Int32} {p12 : Option Nat} {p13 : Option Nat} {p14 : Option Nat} {p15 : Option Nat} {p16 : Option Nat} {p17 : Option Nat} {m18 : Nat} {x19 : Int32} {p20 : Option Nat} {p21 : Option Nat} {p22 : Option Nat} {x23 : Int32} {a24 : Nat} {m25 : Nat} {a26 : Nat} {x27 : Int32} {m28 : Nat} (hg : 18 ≤ w.2.2) (k1 : x2 < 0 → Q (.inr w.2.1) (wnew w (.inl (nJ12, [.null])) 6)) (k2 : ¬ x2 < 0 → (3 : Int32) < x2 → Q (.inr w.2.1) (wnew w (.inl (nJ12, [.null])) 6)) (o3 : Lk G w a1 (.inl (nX1, [.ref a3, .ref a4, .ref a5, .ref a6]))) (o4 : Lk G w a6 (.inl (nJ8, [va_rf p7, va_rf p8, .null, va_rf p9, .int (nI m10), .int x11, va_rf p12, va_rf p13, va_rf p14]))) (k5 : ¬ x2 < 0 → ¬ (3 : Int32) < x2 → ¬ x2 = 0 → ¬ x2 = 1 → ¬ x2 = 2 → Q (.inl (some (.int (nI m10)))) w) (o6 : Lk G w a5 (.inl (nJ8, [va_rf p15, va_rf p16, .null, va_rf p17, .int (nI m18), .int x19, va_rf p20, va_rf p21, va_rf p22]))) (k7 : ¬ x2 < 0 → ¬ (3 : Int32) < x2 → ¬ x2 = 0 → ¬ x2 = 1 → x2 = 2 → Q (.inl (some (.int (nI m18)))) w) (o8 : Lk G w a4 (.inl (nJ6, [.int x23, .ref a24, .int (nI m25)]))) (k9 : ¬ x2 < 0 → ¬ (3 : Int32) < x2 → ¬ x2 = 0 → x2 = 1 → Q (.inl (some (.int (nI m25)))) w) (o10 : Lk G w a3 (.inl (nJ1, [.ref a26, .int 0, .int x27, .int (nI m28)]))) (k11 : ¬ x2 < 0 → ¬ (3 : Int32) < x2 → x2 = 0 → Q (.inl (some (.int (nI m28)))) w) : Ev G mX1_count [.ref a1, .int x2] w Q := by
  show Rn G mX1_count 0 [(0, .ref a1), (1, .int x2)] [] w Q
  refine r_iload_n 0 1 1 rfl rfl rfl ?_
  refine r_if_lt 1 4 13 rfl rfl rfl (fun c1 => ?_) (fun c1 => ?_)
  · refine r_iconst 7 14 rfl rfl di_0 ?_
    refine r_callS lkS_X1_38 8 17 rfl rfl (by decide) [.int 0] rfl rfl (Nat.le_of_ble_eq_true rfl) (Nat.le_of_ble_eq_true rfl) (e_X1_need hS (hg := by show 18 ≤ w.2.2; omega) (k1 := fun z0 => absurd z0 (by decide)) (k2 := fun z1_0 => ?_)) (fun _ _ h => h)
    show Th G mX1_count 14 [(0, .ref a1), (1, .int x2)] [] w.2.1 (wnew w (.inl (nJ12, [.null])) 6) _
    exact th_out rfl (k1 c1)
  · refine r_iload_n 2 5 1 rfl rfl rfl ?_
    refine r_iconst 3 6 rfl rfl di_3 ?_
    refine r_icmp_gt 4 9 13 rfl rfl rfl (fun c2 => ?_) (fun c2 => ?_)
    · refine r_iconst 7 14 rfl rfl di_0 ?_
      refine r_callS lkS_X1_38 8 17 rfl rfl (by decide) [.int 0] rfl rfl (Nat.le_of_ble_eq_true rfl) (Nat.le_of_ble_eq_true rfl) (e_X1_need hS (hg := by show 18 ≤ w.2.2; omega) (k1 := fun z0 => absurd z0 (by decide)) (k2 := fun z2_0 => ?_)) (fun _ _ h => h)
      show Th G mX1_count 14 [(0, .ref a1), (1, .int x2)] [] w.2.1 (wnew w (.inl (nJ12, [.null])) 6) _
      exact th_out rfl (k2 c1 c2)
    · refine r_iconst 5 10 rfl rfl di_1 ?_
      refine r_goto 6 14 rfl rfl ?_
      refine r_callS lkS_X1_38 8 17 rfl rfl (by decide) [.int 1] rfl rfl (Nat.le_of_ble_eq_true rfl) (Nat.le_of_ble_eq_true rfl) (e_X1_need hS (hg := by show 18 ≤ w.2.2; omega) (k2 := fun z0 => absurd z0 (by decide)) (k1 := fun z2_0 => ?_)) (fun _ _ h => h)
      show Rn G mX1_count 17 [(0, .ref a1), (1, .int x2)] [] w _
      refine r_iload_n 9 18 1 rfl rfl rfl ?_
      refine r_if_ne 10 21 31 rfl rfl rfl (fun c3 => ?_) (fun c3 => ?_)
      · refine r_iload_n 15 32 1 rfl rfl rfl ?_
        refine r_iconst 16 33 rfl rfl di_1 ?_
        refine r_icmp_ne 17 36 46 rfl rfl rfl (fun c4 => ?_) (fun c4 => ?_)
        · refine r_iload_n 22 47 1 rfl rfl rfl ?_
          refine r_iconst 23 48 rfl rfl di_2 ?_
          refine r_icmp_ne 24 51 61 rfl rfl rfl (fun c5 => ?_) (fun c5 => ?_)
          · refine r_aload_n 29 62 0 rfl rfl rfl ?_
            refine r_get (v := .ref a6) fl_X1_30_X1 30 65 rfl rfl o3 rfl ?_
            refine r_callV lkV_X1_129_J8 (C := RJ8) (TT := TJ8) (NN := 9) rfl o4 31 68 rfl rfl (by decide) [] rfl rfl (Nat.le_of_ble_eq_true rfl) (Nat.le_of_ble_eq_true rfl) (e_J8_size hS (p9 := p14) (p8 := p13) (p7 := p12) (m5 := m10) (p4 := p9) (p3 := p8) (p2 := p7) (o1 := o4) (k2 := ?_)) (fun _ _ h => h)
            show Rn G mX1_count 68 [(0, .ref a1), (1, .int x2)] [.int (nI m10)] w _
            exact r_iret 32 rfl rfl rfl (k5 c1 c2 c3 c4 c5)
          · refine r_aload_n 25 52 0 rfl rfl rfl ?_
            refine r_get (v := .ref a5) fl_X1_26_X1 26 55 rfl rfl o3 rfl ?_
            refine r_callV lkV_X1_129_J8 (C := RJ8) (TT := TJ8) (NN := 9) rfl o6 27 58 rfl rfl (by decide) [] rfl rfl (Nat.le_of_ble_eq_true rfl) (Nat.le_of_ble_eq_true rfl) (e_J8_size hS (p9 := p22) (p8 := p21) (p7 := p20) (m5 := m18) (p4 := p17) (p3 := p16) (p2 := p15) (o1 := o6) (k2 := ?_)) (fun _ _ h => h)
            show Rn G mX1_count 58 [(0, .ref a1), (1, .int x2)] [.int (nI m18)] w _
            refine r_goto 28 68 rfl rfl ?_
            exact r_iret 32 rfl rfl rfl (k7 c1 c2 c3 c4 c5)
        · refine r_aload_n 18 37 0 rfl rfl rfl ?_
          refine r_get (v := .ref a4) fl_X1_19_X1 19 40 rfl rfl o3 rfl ?_
          refine r_callV lkV_X1_84_J6 (C := RJ6) (TT := TJ6) (NN := 3) rfl o8 20 43 rfl rfl (by decide) [] rfl rfl (Nat.le_of_ble_eq_true rfl) (Nat.le_of_ble_eq_true rfl) (e_J6_size hS (m4 := m25) (o1 := o8) (k2 := ?_)) (fun _ _ h => h)
          show Rn G mX1_count 43 [(0, .ref a1), (1, .int x2)] [.int (nI m25)] w _
          refine r_goto 21 68 rfl rfl ?_
          exact r_iret 32 rfl rfl rfl (k9 c1 c2 c3 c4)
      · refine r_aload_n 11 22 0 rfl rfl rfl ?_
        refine r_get (v := .ref a3) fl_X1_10_X1 12 25 rfl rfl o3 rfl ?_
        refine r_callV lkV_X1_42_J1 (C := RJ1) (TT := TJ1) (NN := 4) rfl o10 13 28 rfl rfl (by decide) [] rfl rfl (Nat.le_of_ble_eq_true rfl) (Nat.le_of_ble_eq_true rfl) (e_J1_length hS (m4 := m28) (o1 := o10) (k2 := ?_)) (fun _ _ h => h)
        show Rn G mX1_count 28 [(0, .ref a1), (1, .int x2)] [.int (nI m28)] w _
        refine r_goto 14 68 rfl rfl ?_
        exact r_iret 32 rfl rfl rfl (k11 c1 c2 c3)
