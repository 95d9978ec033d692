set_option maxRecDepth 100000
theorem db_m10 : (Int8.ofInt (-10)).toInt32 = (-10) := by decide
theorem db_6 : (Int8.ofInt 6).toInt32 = 6 := by decide
theorem db_64 : (Int8.ofInt 64).toInt32 = 64 := by decide
theorem fl_J21_11_J21 : FL RJ21 11 nJ21 0 RJ21 TJ21 3 := ⟨rfl, by decide, _, q628, Or.inl rfl⟩
theorem fl_J21_7_J21 : FL RJ21 7 nJ21 1 RJ21 TJ21 3 := ⟨rfl, by decide, _, q629, Or.inl rfl⟩
theorem fl_J21_24_J21 : FL RJ21 24 nJ21 2 RJ21 TJ21 3 := ⟨rfl, by decide, _, q630, Or.inl rfl⟩
theorem fl_J6_63_J6 : FL RJ6 63 nJ6 0 RJ6 TJ6 3 := ⟨rfl, by decide, _, q167, Or.inr q166⟩
theorem lkS_J21_52 : LkS RJ21 52 mJ21_wordIndex 1 := ⟨okJ21_wordIndex, q625, q626, ⟨by decide, by decide⟩, by decide +kernel⟩
theorem lkV_J21_27_J21 : LkV RJ21 27 RJ21 mJ21_initWords 1 := ⟨okJ21_initWords, q621, q623, qs3, ⟨by decide, by decide⟩, by decide +kernel⟩
theorem lkV_J21_56_J21 : LkV RJ21 56 RJ21 mJ21_checkInvariants 0 := ⟨okJ21_checkInvariants, q821, q823, qs6, ⟨by decide, by decide⟩, by decide +kernel⟩
theorem lkS_J21_133 : LkS RJ21 133 mJ15_max 2 := ⟨okJ15_max, q812, q442, ⟨by decide, by decide⟩, by decide +kernel⟩
theorem lkS_J21_59 : LkS RJ21 59 mJ16_copyOf_2 2 := ⟨okJ16_copyOf_2, q813, q814, ⟨by decide, by decide⟩, by decide +kernel⟩
theorem lkV_J21_139_J21 : LkV RJ21 139 RJ21 mJ21_ensureCapacity 1 := ⟨okJ21_ensureCapacity, q808, q810, qs5, ⟨by decide, by decide⟩, by decide +kernel⟩
theorem lkV_J21_155_J21 : LkV RJ21 155 RJ21 mJ21_expandTo 1 := ⟨okJ21_expandTo, q804, q806, qs4, ⟨by decide, by decide⟩, by decide +kernel⟩
theorem lkS_J2_541 : LkS RJ2 541 mJ17_equals 2 := ⟨okJ17_equals, q732, q733, ⟨by decide, by decide⟩, by decide +kernel⟩
theorem lkS_J17_88 : LkS RJ17 88 mJ17_canEncode 1 := ⟨okJ17_canEncode, q761, q762, ⟨by decide, by decide⟩, by decide +kernel⟩
theorem lkS_J17_92 : LkS RJ17 92 mJ15_max 2 := ⟨okJ15_max, q764, q442, ⟨by decide, by decide⟩, by decide +kernel⟩
theorem lkS_J17_38 : LkS RJ17 38 mJ15_min 2 := ⟨okJ15_min, q765, q267, ⟨by decide, by decide⟩, by decide +kernel⟩
theorem lkS_J17_95 : LkS RJ17 95 mJ17_indexOfChar 4 := ⟨okJ17_indexOfChar, q766, q767, ⟨by decide, by decide⟩, by decide +kernel⟩
theorem lkV_J2_505_J2 : LkV RJ2 505 RJ2 mJ2_length 0 := ⟨okJ2_length, q757, q504, q505, ⟨by decide, by decide⟩, by decide +kernel⟩
theorem lkS_J2_637 : LkS RJ2 637 mJ17_indexOf 4 := ⟨okJ17_indexOf, q758, q759, ⟨by decide, by decide⟩, by decide +kernel⟩
theorem lkV_J2_633_J2 : LkV RJ2 633 RJ2 mJ2_indexOf_2 2 := ⟨okJ2_indexOf_2, q749, q750, q751, ⟨by decide, by decide⟩, by decide +kernel⟩
theorem lkV_J6_129_J6 : LkV RJ6 129 RJ6 mJ6_grow 0 := ⟨okJ6_grow, q846, q848, qs8, ⟨by decide, by decide⟩, by decide +kernel⟩
theorem lkV_J6_131_J6 : LkV RJ6 131 RJ6 mJ6_add_2 3 := ⟨okJ6_add_2, q842, q844, qs7, ⟨by decide, by decide⟩, by decide +kernel⟩
theorem e_J21_wordIndex {G : Gm} {κ : Nat → Nat} {φ : Nat → Option Nat} (hS : GS G κ φ) {w : Wd} {Q : Rs → Wd → Prop} {m1 : Nat} (bd1 : m1 < 2 ^ 31) (k2 : Q (.inl (some (.int (nI (m1 / 64))))) w) : Ev G mJ21_wordIndex [.int (nI m1)] w Q := by
  show Rn G mJ21_wordIndex 0 [(0, .int (nI m1))] [] w Q
  refine r_iload_n 0 1 0 rfl rfl rfl ?_
  refine r_bipush 1 3 rfl rfl db_6 ?_
  refine r_ishr 2 4 rfl rfl ?_
  refine x_eq (y := (nI (m1 / 64))) (n_shr6 bd1) ?_
  exact r_iret 3 rfl rfl rfl k2
theorem e_J21_initWords {G : Gm} {κ : Nat → Nat} {φ : Nat → Option Nat} (hS : GS G κ φ) {w : Wd} {Q : Rs → Wd → Prop} {tb : Nat} (o1 : w.1 tb = some (.inl (nJ21, [.null, .int 0, .int 0]))) (hg : 13 ≤ w.2.2) (k2 : Q (.inl none) (wset (wnew w (arL 1 (fun _ => 0)) 1) tb (.inl (nJ21, [.ref w.2.1, .int 0, .int 0])))) : Ev G mJ21_initWords [.ref tb, .int 64] w Q := by
  show Rn G mJ21_initWords 0 [(0, .ref tb), (1, .int 64)] [] w Q
  refine Rn.wok fun hwk => ?_
  refine r_aload_n 0 1 0 rfl rfl rfl ?_
  refine r_iload_n 1 2 1 rfl rfl rfl ?_
  refine r_iconst 2 3 rfl rfl di_1 ?_
  refine r_isub 3 4 rfl rfl ?_
  refine x_eq (show (((64 : Int32) - (1 : Int32)) : Int32) = 63 by decide) ?_
  refine r_callS lkS_J21_52 4 7 rfl rfl (by decide) [.int 63] rfl rfl (Nat.le_of_ble_eq_true rfl) (Nat.le_of_ble_eq_true rfl) (e_J21_wordIndex hS (m1 := 63) (bd1 := (by omega)) (k2 := ?_)) (fun _ _ h => h)
  show Rn G mJ21_initWords 7 [(0, .ref tb), (1, .int 64)] [.int 0, .ref tb] w _
  refine r_iconst 5 8 rfl rfl di_1 ?_
  refine r_iadd 6 9 rfl rfl ?_
  refine x_eq (show (((0 : Int32) + (1 : Int32)) : Int32) = 1 by decide) ?_
  refine y_newL (n := 1) 7 11 rfl rfl (by decide) (by show 12 + 1 ≤ w.2.2; omega) ?_
  show Rn G mJ21_initWords 11 [(0, .ref tb), (1, .int 64)] [.ref w.2.1, .ref tb] (wnew w (arL 1 (fun _ => 0)) 1) _
  refine r_put (i := 0) fl_J21_11_J21 in_J21 q616 (ty0 := tyJ21) tyJ21_ok nmJ21 8 14 rfl rfl (wnew_n o1 (by have := (hwk.1 _ _ o1).2; show tb < w.2.1; omega)) rfl rfl rfl (Nat.le_of_ble_eq_true rfl) ?_
  show Rn G mJ21_initWords 14 [(0, .ref tb), (1, .int 64)] [] (wset (wnew w (arL 1 (fun _ => 0)) 1) tb (.inl (nJ21, [.ref w.2.1, .int 0, .int 0]))) _
  exact r_vret 9 rfl rfl k2
theorem e_J21_init {G : Gm} {κ : Nat → Nat} {φ : Nat → Option Nat} (hS : GS G κ φ) {w : Wd} {Q : Rs → Wd → Prop} {a1 : Nat} (o1 : w.1 a1 = some (.inl (nJ21, [.null, .int 0, .int 0]))) (hg : 13 ≤ w.2.2) (k2 : Q (.inl none) (wset (wnew (wset w a1 (.inl (nJ21, [.null, .int 0, .int 0]))) (arL 1 (fun _ => 0)) 1) a1 (.inl (nJ21, [.ref w.2.1, .int 0, .int 0])))) : Ev G mJ21_init [.ref a1] w Q := by
  show Rn G mJ21_init 0 [(0, .ref a1)] [] w Q
  refine r_aload_n 0 1 0 rfl rfl rfl ?_
  refine r_objInit q620 q111 q112 1 4 rfl rfl (by decide) (Nat.le_of_ble_eq_true rfl) ?_
  refine r_aload_n 2 5 0 rfl rfl rfl ?_
  refine r_iconst 3 6 rfl rfl di_0 ?_
  refine r_put (i := 1) fl_J21_7_J21 in_J21 q616 (ty0 := tyJ21) tyJ21_ok nmJ21 4 9 rfl rfl o1 rfl rfl rfl (Nat.le_of_ble_eq_true rfl) ?_
  show Rn G mJ21_init 9 [(0, .ref a1)] [] (wset w a1 (.inl (nJ21, [.null, .int 0, .int 0]))) _
  refine r_aload_n 5 10 0 rfl rfl rfl ?_
  refine r_iconst 6 11 rfl rfl di_0 ?_
  refine r_put (i := 2) fl_J21_24_J21 in_J21 q616 (ty0 := tyJ21) tyJ21_ok nmJ21 7 14 rfl rfl wset_s rfl rfl rfl (Nat.le_of_ble_eq_true rfl) ?_
  rw [wset_wset]
  show Rn G mJ21_init 14 [(0, .ref a1)] [] (wset w a1 (.inl (nJ21, [.null, .int 0, .int 0]))) _
  refine r_aload_n 8 15 0 rfl rfl rfl ?_
  refine r_bipush 9 17 rfl rfl db_64 ?_
  refine r_callV lkV_J21_27_J21 (C := RJ21) (TT := TJ21) (NN := 3) rfl (Or.inl wset_s) 10 20 rfl rfl (by decide) [.int 64] rfl rfl (Nat.le_of_ble_eq_true rfl) (Nat.le_of_ble_eq_true rfl) (e_J21_initWords hS (o1 := wset_s) (hg := by show 13 ≤ w.2.2; omega) (k2 := ?_)) (fun _ _ h => h)
  show Rn G mJ21_init 20 [(0, .ref a1)] [] (wset (wnew (wset w a1 (.inl (nJ21, [.null, .int 0, .int 0]))) (arL 1 (fun _ => 0)) 1) a1 (.inl (nJ21, [.ref w.2.1, .int 0, .int 0]))) _
  refine r_aload_n 11 21 0 rfl rfl rfl ?_
  refine r_iconst 12 22 rfl rfl di_0 ?_
  refine r_put (i := 2) fl_J21_24_J21 in_J21 q616 (ty0 := tyJ21) tyJ21_ok nmJ21 13 25 rfl rfl wset_s rfl rfl rfl (Nat.le_of_ble_eq_true rfl) ?_
  rw [wset_wset]
  show Rn G mJ21_init 25 [(0, .ref a1)] [] (wset (wnew (wset w a1 (.inl (nJ21, [.null, .int 0, .int 0]))) (arL 1 (fun _ => 0)) 1) a1 (.inl (nJ21, [.ref w.2.1, .int 0, .int 0]))) _
  exact r_vret 14 rfl rfl k2
theorem e_J21_checkInvariants {G : Gm} {κ : Nat → Nat} {φ : Nat → Option Nat} (hS : GS G κ φ) {w : Wd} {Q : Rs → Wd → Prop} {a1 : Nat} (k1 : Q (.inl none) w) : Ev G mJ21_checkInvariants [.ref a1] w Q := by
  show Rn G mJ21_checkInvariants 0 [(0, .ref a1)] [] w Q
  refine r_gets (v := .int 1) (hS 51) q825 0 3 rfl rfl ?_
  refine r_if_ne 1 6 37 rfl rfl rfl (fun _ => ?_) (fun c => absurd c (by decide))
  refine r_gets (v := .int 1) (hS 51) q825 19 40 rfl rfl ?_
  refine r_if_ne 20 43 70 rfl rfl rfl (fun _ => ?_) (fun c => absurd c (by decide))
  refine r_gets (v := .int 1) (hS 51) q825 34 73 rfl rfl ?_
  refine r_if_ne 35 76 110 rfl rfl rfl (fun _ => ?_) (fun c => absurd c (by decide))
  exact r_vret 54 rfl rfl k1
theorem e_J21_get {G : Gm} {κ : Nat → Nat} {φ : Nat → Option Nat} (hS : GS G κ φ) {w : Wd} {Q : Rs → Wd → Prop} {a1 : Nat} {m2 : Nat} {a3 : Nat} {m4 : Nat} {n5 : Nat} {g6 : Nat → Int64} (bd1 : m2 < 2 ^ 31) (o2 : Lk G w a1 (.inl (nJ21, [.ref a3, .int (nI m4), .int 0]))) (bd3 : m4 < 2 ^ 31) (k4 : m4 ≤ (m2 / 64) → Q (.inl (some (.int 0))) w) (o5 : Lk G w a3 (arL n5 g6)) (b6 : ¬ m4 ≤ (m2 / 64) → (m2 / 64) < n5) (bd7 : n5 < 2 ^ 31) (k8 : ¬ m4 ≤ (m2 / 64) → (lg_cmp ((g6 (m2 / 64)) &&& (1 <<< (((nI m2) : Int32).toInt64 &&& 63))) 0) = 0 → Q (.inl (some (.int 0))) w) (k9 : ¬ m4 ≤ (m2 / 64) → ¬ (lg_cmp ((g6 (m2 / 64)) &&& (1 <<< (((nI m2) : Int32).toInt64 &&& 63))) 0) = 0 → Q (.inl (some (.int 1))) w) : Ev G mJ21_get [.ref a1, .int (nI m2)] w Q := by
  show Rn G mJ21_get 0 [(0, .ref a1), (1, .int (nI m2))] [] w Q
  refine r_iload_n 0 1 1 rfl rfl rfl ?_
  refine y_if_ge (a := m2) bd1 1 4 31 rfl rfl rfl (fun _ => ?_) (fun c => absurd (by omega) c)
  refine r_aload_n 14 32 0 rfl rfl rfl ?_
  refine r_callV lkV_J21_56_J21 (C := RJ21) (TT := TJ21) (NN := 3) rfl o2 15 35 rfl rfl (by decide) [] rfl rfl (Nat.le_of_ble_eq_true rfl) (Nat.le_of_ble_eq_true rfl) (e_J21_checkInvariants hS (k1 := ?_)) (fun _ _ h => h)
  show Rn G mJ21_get 35 [(0, .ref a1), (1, .int (nI m2))] [] w _
  refine r_iload_n 16 36 1 rfl rfl rfl ?_
  refine r_callS lkS_J21_52 17 39 rfl rfl (by decide) [.int (nI m2)] rfl rfl (Nat.le_of_ble_eq_true rfl) (Nat.le_of_ble_eq_true rfl) (e_J21_wordIndex hS (m1 := m2) (bd1 := (by omega)) (k2 := ?_)) (fun _ _ h => h)
  show Rn G mJ21_get 39 [(0, .ref a1), (1, .int (nI m2))] [.int (nI (m2 / 64))] w _
  refine r_istore_n (lv' := [(2, .int (nI (m2 / 64))), (0, .ref a1), (1, .int (nI m2))]) 18 40 rfl rfl (Nat.le_of_ble_eq_true rfl) rfl ?_
  refine r_iload_n 19 41 0 rfl rfl rfl ?_
  refine r_aload_n 20 42 1 rfl rfl rfl ?_
  refine r_get (v := .int (nI m4)) fl_J21_7_J21 21 45 rfl rfl o2 rfl ?_
  refine y_icmp_ge (a := (m2 / 64)) (b := m4) (by omega) bd3 22 48 67 rfl rfl rfl (fun c1 => ?_) (fun c1 => ?_)
  · refine r_iconst 36 68 rfl rfl di_0 ?_
    exact r_iret 37 rfl rfl (by decide) (k4 c1)
  · refine r_aload_n 23 49 1 rfl rfl rfl ?_
    refine r_get (v := .ref a3) fl_J21_11_J21 24 52 rfl rfl o2 rfl ?_
    refine r_iload_n 25 53 0 rfl rfl rfl ?_
    refine y_lald (i := (m2 / 64)) 26 54 rfl rfl o5 (b6 c1) bd7 ?_
    refine r_lconst (v := 1) 27 55 rfl rfl rfl ?_
    refine r_iload_n 28 56 2 rfl rfl rfl ?_
    refine r_lshl 29 57 rfl rfl ?_
    refine r_land 30 58 rfl rfl ?_
    refine r_lconst (v := 0) 31 59 rfl rfl rfl ?_
    refine r_lcmp 32 60 rfl rfl ?_
    refine r_if_eq 33 63 67 rfl rfl rfl (fun c2 => ?_) (fun c2 => ?_)
    · refine r_iconst 36 68 rfl rfl di_0 ?_
      exact r_iret 37 rfl rfl (by decide) (k8 c1 c2)
    · refine r_iconst 34 64 rfl rfl di_1 ?_
      refine r_goto 35 68 rfl rfl ?_
      exact r_iret 37 rfl rfl (by decide) (k9 c1 c2)
theorem e_J16_copyOf_2 {G : Gm} {κ : Nat → Nat} {φ : Nat → Option Nat} (hS : GS G κ φ) {w : Wd} {Q : Rs → Wd → Prop} {a1 : Nat} {m2 : Nat} {n3 : Nat} {g4 : Nat → Int64} (o1 : Lk G w a1 (arL n3 g4)) (bd2 : m2 < 2 ^ 31) (bd3 : n3 < 2 ^ 31) (f4 : ¬ m2 = n3) (b5 : m2 ≤ 50000000) (hg6 : (12 + m2) ≤ w.2.2) (f7 : ¬ m2 < n3) (k8 : Q (.inl (some (.ref w.2.1))) (wnew w (arL m2 (va_cpy g4 (fun _ => 0) 0 0 n3)) m2)) : Ev G mJ16_copyOf_2 [.ref a1, .int (nI m2)] w Q := by
  show Rn G mJ16_copyOf_2 0 [(0, .ref a1), (1, .int (nI m2))] [] w Q
  refine Rn.wok fun hwk => ?_
  refine r_iload_n 0 1 1 rfl rfl rfl ?_
  refine r_aload_n 1 2 0 rfl rfl rfl ?_
  refine r_alen 2 3 rfl rfl o1 ?_
  refine y_icmp_ne (a := m2) (b := n3) bd2 bd3 3 6 14 rfl rfl rfl (fun _ => ?_) (fun c => absurd c f4)
  refine r_iload_n 8 15 1 rfl rfl rfl ?_
  refine y_newL (n := m2) 9 17 rfl rfl b5 (by have := hg6; show 12 + m2 ≤ w.2.2; omega) ?_
  show Rn G mJ16_copyOf_2 17 [(0, .ref a1), (1, .int (nI m2))] [.ref w.2.1] (wnew w (arL m2 (fun _ => 0)) m2) _
  refine r_astore_n (lv' := [(2, .ref w.2.1), (0, .ref a1), (1, .int (nI m2))]) 10 18 rfl rfl (Nat.le_of_ble_eq_true rfl) rfl ?_
  refine r_aload_n 11 19 1 rfl rfl rfl ?_
  refine r_iconst 12 20 rfl rfl di_0 ?_
  refine r_aload_n 13 21 0 rfl rfl rfl ?_
  refine r_iconst 14 22 rfl rfl di_0 ?_
  refine r_aload_n 15 23 1 rfl rfl rfl ?_
  refine r_alen 16 24 rfl rfl (Lk.new_n o1 (by have := (o1.lt hwk); show a1 < w.2.1; omega)) ?_
  refine r_iload_n 17 25 2 rfl rfl rfl ?_
  refine r_callS lkS_J16_304 18 28 rfl rfl (by decide) [.int (nI n3), .int (nI m2)] rfl rfl (Nat.le_of_ble_eq_true rfl) (Nat.le_of_ble_eq_true rfl) (e_J15_min hS (m2 := m2) (m1 := n3) (bd1 := (by omega)) (bd2 := (by omega)) (k3 := fun z0_0 => absurd z0_0 f7) (k4 := fun z0_0 => ?_)) (fun _ _ h => h)
  show Rn G mJ16_copyOf_2 28 [(2, .ref w.2.1), (0, .ref a1), (1, .int (nI m2))] [.int (nI n3), .int 0, .ref w.2.1, .int 0, .ref a1] (wnew w (arL m2 (fun _ => 0)) m2) _
  refine y_copyL (S := 0) (D := 0) (L := n3) 19 31 rfl rfl q460 (Lk.new_n o1 (by have := (o1.lt hwk); show a1 < w.2.1; omega)) wnew_s (by omega) (by omega) (by omega) (by omega) (by decide) (Nat.le_of_ble_eq_true rfl) ?_
  refine z_wn ?_
  show Rn G mJ16_copyOf_2 31 [(2, .ref w.2.1), (0, .ref a1), (1, .int (nI m2))] [] (wnew w (arL m2 (va_cpy g4 (fun _ => 0) 0 0 n3)) m2) _
  refine r_aload_n 20 32 0 rfl rfl rfl ?_
  exact r_aret 21 rfl rfl (Or.inr ⟨_, rfl⟩) (Or.inr ⟨_, rfl⟩) k8
theorem e_J21_ensureCapacity {G : Gm} {κ : Nat → Nat} {φ : Nat → Option Nat} (hS : GS G κ φ) {w : Wd} {Q : Rs → Wd → Prop} {a1 : Nat} {m2 : Nat} {a3 : Nat} {m4 : Nat} {n5 : Nat} {g6 : Nat → Int64} (o1 : w.1 a1 = some (.inl (nJ21, [.ref a3, .int (nI m4), .int 0]))) (o2 : Lk G w a3 (arL n5 g6)) (bd3 : n5 < 2 ^ 31) (bd4 : m2 < 2 ^ 31) (k5 : m2 ≤ n5 → Q (.inl none) w) (b6 : ¬ m2 ≤ n5 → (2 * n5) < 2 ^ 31) (b7 : ¬ m2 ≤ n5 → (2 * n5) < m2 → m2 ≤ 50000000) (hg8 : ¬ m2 ≤ n5 → (2 * n5) < m2 → (12 + m2) ≤ w.2.2) (k9 : ¬ m2 ≤ n5 → (2 * n5) < m2 → Q (.inl none) (wset (wnew w (arL m2 (va_cpy g6 (fun _ => 0) 0 0 n5)) m2) a1 (.inl (nJ21, [.ref w.2.1, .int (nI m4), .int 0])))) (b10 : ¬ m2 ≤ n5 → ¬ (2 * n5) < m2 → (2 * n5) ≤ 50000000) (hg11 : ¬ m2 ≤ n5 → ¬ (2 * n5) < m2 → (12 + (2 * n5)) ≤ w.2.2) (k12 : ¬ m2 ≤ n5 → ¬ (2 * n5) < m2 → Q (.inl none) (wset (wnew w (arL (2 * n5) (va_cpy g6 (fun _ => 0) 0 0 n5)) (2 * n5)) a1 (.inl (nJ21, [.ref w.2.1, .int (nI m4), .int 0])))) : Ev G mJ21_ensureCapacity [.ref a1, .int (nI m2)] w Q := by
  show Rn G mJ21_ensureCapacity 0 [(0, .ref a1), (1, .int (nI m2))] [] w Q
  refine Rn.wok fun hwk => ?_
  refine r_aload_n 0 1 0 rfl rfl rfl ?_
  refine r_get (v := .ref a3) fl_J21_11_J21 1 4 rfl rfl (Or.inl o1) rfl ?_
  refine r_alen 2 5 rfl rfl o2 ?_
  refine r_iload_n 3 6 1 rfl rfl rfl ?_
  refine y_icmp_ge (a := n5) (b := m2) bd3 bd4 4 9 38 rfl rfl rfl (fun c1 => ?_) (fun c1 => ?_)
  · exact r_vret 22 rfl rfl (k5 c1)
  · refine r_iconst 5 10 rfl rfl di_2 ?_
    refine r_aload_n 6 11 0 rfl rfl rfl ?_
    refine r_get (v := .ref a3) fl_J21_11_J21 7 14 rfl rfl (Or.inl o1) rfl ?_
    refine r_alen 8 15 rfl rfl o2 ?_
    refine r_imul 9 16 rfl rfl ?_
    refine x_eq (y := (nI (2 * n5))) (n_mul _ _) ?_
    refine r_iload_n 10 17 1 rfl rfl rfl ?_
    refine r_callS lkS_J21_133 11 20 rfl rfl (by decide) [.int (nI (2 * n5)), .int (nI m2)] rfl rfl (Nat.le_of_ble_eq_true rfl) (Nat.le_of_ble_eq_true rfl) (e_J15_max hS (m2 := m2) (m1 := (2 * n5)) (bd1 := (b6 c1)) (bd2 := (by omega)) (k3 := fun z1_0 => ?_) (k4 := fun z1_0 => ?_)) (fun _ _ h => h)
    · show Rn G mJ21_ensureCapacity 20 [(0, .ref a1), (1, .int (nI m2))] [.int (nI m2)] w _
      refine r_istore_n (lv' := [(2, .int (nI m2)), (0, .ref a1), (1, .int (nI m2))]) 12 21 rfl rfl (Nat.le_of_ble_eq_true rfl) rfl ?_
      refine r_aload_n 13 22 1 rfl rfl rfl ?_
      refine r_aload_n 14 23 1 rfl rfl rfl ?_
      refine r_get (v := .ref a3) fl_J21_11_J21 15 26 rfl rfl (Or.inl o1) rfl ?_
      refine r_iload_n 16 27 0 rfl rfl rfl ?_
      refine r_callS lkS_J21_59 17 30 rfl rfl (by decide) [.ref a3, .int (nI m2)] rfl rfl (Nat.le_of_ble_eq_true rfl) (Nat.le_of_ble_eq_true rfl) (e_J16_copyOf_2 hS (m2 := m2) (o1 := o2) (bd2 := (by omega)) (bd3 := (by omega)) (f4 := (by omega)) (b5 := (b7 c1 z1_0)) (hg6 := (hg8 c1 z1_0)) (f7 := (by omega)) (k8 := ?_)) (fun _ _ h => h)
      show Rn G mJ21_ensureCapacity 30 [(2, .int (nI m2)), (0, .ref a1), (1, .int (nI m2))] [.ref w.2.1, .ref a1] (wnew w (arL m2 (va_cpy g6 (fun _ => 0) 0 0 n5)) m2) _
      refine r_put (i := 0) fl_J21_11_J21 in_J21 q616 (ty0 := tyJ21) tyJ21_ok nmJ21 18 33 rfl rfl (wnew_n o1 (by have := (hwk.1 _ _ o1).2; show a1 < w.2.1; omega)) rfl rfl rfl (Nat.le_of_ble_eq_true rfl) ?_
      show Rn G mJ21_ensureCapacity 33 [(2, .int (nI m2)), (0, .ref a1), (1, .int (nI m2))] [] (wset (wnew w (arL m2 (va_cpy g6 (fun _ => 0) 0 0 n5)) m2) a1 (.inl (nJ21, [.ref w.2.1, .int (nI m4), .int 0]))) _
      refine r_aload_n 19 34 1 rfl rfl rfl ?_
      refine r_iconst 20 35 rfl rfl di_0 ?_
      refine r_put (i := 2) fl_J21_24_J21 in_J21 q616 (ty0 := tyJ21) tyJ21_ok nmJ21 21 38 rfl rfl wset_s rfl rfl rfl (Nat.le_of_ble_eq_true rfl) ?_
      rw [wset_wset]
      show Rn G mJ21_ensureCapacity 38 [(2, .int (nI m2)), (0, .ref a1), (1, .int (nI m2))] [] (wset (wnew w (arL m2 (va_cpy g6 (fun _ => 0) 0 0 n5)) m2) a1 (.inl (nJ21, [.ref w.2.1, .int (nI m4), .int 0]))) _
      exact r_vret 22 rfl rfl (k9 c1 z1_0)
    · show Rn G mJ21_ensureCapacity 20 [(0, .ref a1), (1, .int (nI m2))] [.int (nI (2 * n5))] w _
      refine r_istore_n (lv' := [(2, .int (nI (2 * n5))), (0, .ref a1), (1, .int (nI m2))]) 12 21 rfl rfl (Nat.le_of_ble_eq_true rfl) rfl ?_
      refine r_aload_n 13 22 1 rfl rfl rfl ?_
      refine r_aload_n 14 23 1 rfl rfl rfl ?_
      refine r_get (v := .ref a3) fl_J21_11_J21 15 26 rfl rfl (Or.inl o1) rfl ?_
      refine r_iload_n 16 27 0 rfl rfl rfl ?_
      refine r_callS lkS_J21_59 17 30 rfl rfl (by decide) [.ref a3, .int (nI (2 * n5))] rfl rfl (Nat.le_of_ble_eq_true rfl) (Nat.le_of_ble_eq_true rfl) (e_J16_copyOf_2 hS (m2 := (2 * n5)) (o1 := o2) (bd2 := (b6 c1)) (bd3 := (by omega)) (f4 := (by omega)) (b5 := (b10 c1 z1_0)) (hg6 := (hg11 c1 z1_0)) (f7 := (by omega)) (k8 := ?_)) (fun _ _ h => h)
      show Rn G mJ21_ensureCapacity 30 [(2, .int (nI (2 * n5))), (0, .ref a1), (1, .int (nI m2))] [.ref w.2.1, .ref a1] (wnew w (arL (2 * n5) (va_cpy g6 (fun _ => 0) 0 0 n5)) (2 * n5)) _
      refine r_put (i := 0) fl_J21_11_J21 in_J21 q616 (ty0 := tyJ21) tyJ21_ok nmJ21 18 33 rfl rfl (wnew_n o1 (by have := (hwk.1 _ _ o1).2; show a1 < w.2.1; omega)) rfl rfl rfl (Nat.le_of_ble_eq_true rfl) ?_
      show Rn G mJ21_ensureCapacity 33 [(2, .int (nI (2 * n5))), (0, .ref a1), (1, .int (nI m2))] [] (wset (wnew w (arL (2 * n5) (va_cpy g6 (fun _ => 0) 0 0 n5)) (2 * n5)) a1 (.inl (nJ21, [.ref w.2.1, .int (nI m4), .int 0]))) _
      refine r_aload_n 19 34 1 rfl rfl rfl ?_
      refine r_iconst 20 35 rfl rfl di_0 ?_
      refine r_put (i := 2) fl_J21_24_J21 in_J21 q616 (ty0 := tyJ21) tyJ21_ok nmJ21 21 38 rfl rfl wset_s rfl rfl rfl (Nat.le_of_ble_eq_true rfl) ?_
      rw [wset_wset]
      show Rn G mJ21_ensureCapacity 38 [(2, .int (nI (2 * n5))), (0, .ref a1), (1, .int (nI m2))] [] (wset (wnew w (arL (2 * n5) (va_cpy g6 (fun _ => 0) 0 0 n5)) (2 * n5)) a1 (.inl (nJ21, [.ref w.2.1, .int (nI m4), .int 0]))) _
      exact r_vret 22 rfl rfl (k12 c1 z1_0)
theorem e_J21_expandTo {G : Gm} {κ : Nat → Nat} {φ : Nat → Option Nat} (hS : GS G κ φ) {w : Wd} {Q : Rs → Wd → Prop} {a1 : Nat} {m2 : Nat} {a3 : Nat} {m4 : Nat} {n5 : Nat} {g6 : Nat → Int64} (o1 : w.1 a1 = some (.inl (nJ21, [.ref a3, .int (nI m4), .int 0]))) (bd2 : m4 < 2 ^ 31) (bd3 : (m2 + 1) < 2 ^ 31) (k4 : (m2 + 1) ≤ m4 → Q (.inl none) w) (o5 : Lk G w a3 (arL n5 g6)) (b6 : ¬ (m2 + 1) ≤ m4 → n5 < 2 ^ 31) (b7 : ¬ (m2 + 1) ≤ m4 → ¬ (m2 + 1) ≤ n5 → (2 * n5) < 2 ^ 31) (b8 : ¬ (m2 + 1) ≤ m4 → ¬ (m2 + 1) ≤ n5 → (2 * n5) < (m2 + 1) → (m2 + 1) ≤ 50000000) (hg9 : ¬ (m2 + 1) ≤ m4 → ¬ (m2 + 1) ≤ n5 → (2 * n5) < (m2 + 1) → (12 + (m2 + 1)) ≤ w.2.2) (b10 : ¬ (m2 + 1) ≤ m4 → ¬ (m2 + 1) ≤ n5 → ¬ (2 * n5) < (m2 + 1) → (2 * n5) ≤ 50000000) (hg11 : ¬ (m2 + 1) ≤ m4 → ¬ (m2 + 1) ≤ n5 → ¬ (2 * n5) < (m2 + 1) → (12 + (2 * n5)) ≤ w.2.2) (k12 : ¬ (m2 + 1) ≤ m4 → (m2 + 1) ≤ n5 → Q (.inl none) (wset w a1 (.inl (nJ21, [.ref a3, .int (nI (m2 + 1)), .int 0])))) (k13 : ¬ (m2 + 1) ≤ m4 → ¬ (m2 + 1) ≤ n5 → (2 * n5) < (m2 + 1) → Q (.inl none) (wset (wnew w (arL (m2 + 1) (va_cpy g6 (fun _ => 0) 0 0 n5)) (m2 + 1)) a1 (.inl (nJ21, [.ref w.2.1, .int (nI (m2 + 1)), .int 0])))) (k14 : ¬ (m2 + 1) ≤ m4 → ¬ (m2 + 1) ≤ n5 → ¬ (2 * n5) < (m2 + 1) → Q (.inl none) (wset (wnew w (arL (2 * n5) (va_cpy g6 (fun _ => 0) 0 0 n5)) (2 * n5)) a1 (.inl (nJ21, [.ref w.2.1, .int (nI (m2 + 1)), .int 0])))) : Ev G mJ21_expandTo [.ref a1, .int (nI m2)] w Q := by
  show Rn G mJ21_expandTo 0 [(0, .ref a1), (1, .int (nI m2))] [] w Q
  refine r_iload_n 0 1 1 rfl rfl rfl ?_
  refine r_iconst 1 2 rfl rfl di_1 ?_
  refine r_iadd 2 3 rfl rfl ?_
  refine x_eq (y := (nI (m2 + 1))) (nI_add _ _) ?_
  refine r_istore_n (lv' := [(2, .int (nI (m2 + 1))), (0, .ref a1), (1, .int (nI m2))]) 3 4 rfl rfl (Nat.le_of_ble_eq_true rfl) rfl ?_
  refine r_aload_n 4 5 1 rfl rfl rfl ?_
  refine r_get (v := .int (nI m4)) fl_J21_7_J21 5 8 rfl rfl (Or.inl o1) rfl ?_
  refine r_iload_n 6 9 0 rfl rfl rfl ?_
  refine y_icmp_ge (a := m4) (b := (m2 + 1)) bd2 bd3 7 12 22 rfl rfl rfl (fun c1 => ?_) (fun c1 => ?_)
  · exact r_vret 14 rfl rfl (k4 c1)
  · refine r_aload_n 8 13 1 rfl rfl rfl ?_
    refine r_iload_n 9 14 0 rfl rfl rfl ?_
    refine r_callV lkV_J21_139_J21 (C := RJ21) (TT := TJ21) (NN := 3) rfl (Or.inl o1) 10 17 rfl rfl (by decide) [.int (nI (m2 + 1))] rfl rfl (Nat.le_of_ble_eq_true rfl) (Nat.le_of_ble_eq_true rfl) (e_J21_ensureCapacity hS (m4 := m4) (m2 := (m2 + 1)) (o1 := o1) (o2 := o5) (bd3 := (b6 c1)) (bd4 := (by omega)) (b6 := (b7 c1)) (b7 := (b8 c1)) (hg8 := (hg9 c1)) (b10 := (b10 c1)) (hg11 := (hg11 c1)) (k5 := fun z1_0 => ?_) (k9 := fun z1_0 => fun z1_1 => ?_) (k12 := fun z1_0 => fun z1_1 => ?_)) (fun _ _ h => h)
    · show Rn G mJ21_expandTo 17 [(2, .int (nI (m2 + 1))), (0, .ref a1), (1, .int (nI m2))] [] w _
      refine r_aload_n 11 18 1 rfl rfl rfl ?_
      refine r_iload_n 12 19 0 rfl rfl rfl ?_
      refine r_put (i := 1) fl_J21_7_J21 in_J21 q616 (ty0 := tyJ21) tyJ21_ok nmJ21 13 22 rfl rfl o1 rfl rfl rfl (Nat.le_of_ble_eq_true rfl) ?_
      show Rn G mJ21_expandTo 22 [(2, .int (nI (m2 + 1))), (0, .ref a1), (1, .int (nI m2))] [] (wset w a1 (.inl (nJ21, [.ref a3, .int (nI (m2 + 1)), .int 0]))) _
      exact r_vret 14 rfl rfl (k12 c1 z1_0)
    · show Rn G mJ21_expandTo 17 [(2, .int (nI (m2 + 1))), (0, .ref a1), (1, .int (nI m2))] [] (wset (wnew w (arL (m2 + 1) (va_cpy g6 (fun _ => 0) 0 0 n5)) (m2 + 1)) a1 (.inl (nJ21, [.ref w.2.1, .int (nI m4), .int 0]))) _
      refine r_aload_n 11 18 1 rfl rfl rfl ?_
      refine r_iload_n 12 19 0 rfl rfl rfl ?_
      refine r_put (i := 1) fl_J21_7_J21 in_J21 q616 (ty0 := tyJ21) tyJ21_ok nmJ21 13 22 rfl rfl wset_s rfl rfl rfl (Nat.le_of_ble_eq_true rfl) ?_
      rw [wset_wset]
      show Rn G mJ21_expandTo 22 [(2, .int (nI (m2 + 1))), (0, .ref a1), (1, .int (nI m2))] [] (wset (wnew w (arL (m2 + 1) (va_cpy g6 (fun _ => 0) 0 0 n5)) (m2 + 1)) a1 (.inl (nJ21, [.ref w.2.1, .int (nI (m2 + 1)), .int 0]))) _
      exact r_vret 14 rfl rfl (k13 c1 z1_0 z1_1)
    · show Rn G mJ21_expandTo 17 [(2, .int (nI (m2 + 1))), (0, .ref a1), (1, .int (nI m2))] [] (wset (wnew w (arL (2 * n5) (va_cpy g6 (fun _ => 0) 0 0 n5)) (2 * n5)) a1 (.inl (nJ21, [.ref w.2.1, .int (nI m4), .int 0]))) _
      refine r_aload_n 11 18 1 rfl rfl rfl ?_
      refine r_iload_n 12 19 0 rfl rfl rfl ?_
      refine r_put (i := 1) fl_J21_7_J21 in_J21 q616 (ty0 := tyJ21) tyJ21_ok nmJ21 13 22 rfl rfl wset_s rfl rfl rfl (Nat.le_of_ble_eq_true rfl) ?_
      rw [wset_wset]
      show Rn G mJ21_expandTo 22 [(2, .int (nI (m2 + 1))), (0, .ref a1), (1, .int (nI m2))] [] (wset (wnew w (arL (2 * n5) (va_cpy g6 (fun _ => 0) 0 0 n5)) (2 * n5)) a1 (.inl (nJ21, [.ref w.2.1, .int (nI (m2 + 1)), .int 0]))) _
      exact r_vret 14 rfl rfl (k14 c1 z1_0 z1_1)
theorem e_J21_set {G : Gm} {κ : Nat → Nat} {φ : Nat → Option Nat} (hS : GS G κ φ) {w : Wd} {Q : Rs → Wd → Prop} {a1 : Nat} {m2 : Nat} {a3 : Nat} {m4 : Nat} {n5 : Nat} {g6 : Nat → Int64} (bd1 : m2 < 2 ^ 31) (o2 : w.1 a1 = some (.inl (nJ21, [.ref a3, .int (nI m4), .int 0]))) (o3 : w.1 a3 = some (arL n5 g6)) (b4 : m4 < 2 ^ 31) (b5 : ¬ ((m2 / 64) + 1) ≤ m4 → n5 < 2 ^ 31) (b6 : ¬ ((m2 / 64) + 1) ≤ m4 → ¬ ((m2 / 64) + 1) ≤ n5 → (2 * n5) < 2 ^ 31) (b7 : ¬ ((m2 / 64) + 1) ≤ m4 → ¬ ((m2 / 64) + 1) ≤ n5 → (2 * n5) < ((m2 / 64) + 1) → ((m2 / 64) + 1) ≤ 50000000) (hg8 : ¬ ((m2 / 64) + 1) ≤ m4 → ¬ ((m2 / 64) + 1) ≤ n5 → (2 * n5) < ((m2 / 64) + 1) → (12 + ((m2 / 64) + 1)) ≤ w.2.2) (b9 : ¬ ((m2 / 64) + 1) ≤ m4 → ¬ ((m2 / 64) + 1) ≤ n5 → ¬ (2 * n5) < ((m2 / 64) + 1) → (2 * n5) ≤ 50000000) (hg10 : ¬ ((m2 / 64) + 1) ≤ m4 → ¬ ((m2 / 64) + 1) ≤ n5 → ¬ (2 * n5) < ((m2 / 64) + 1) → (12 + (2 * n5)) ≤ w.2.2) (b11 : ((m2 / 64) + 1) ≤ m4 → (m2 / 64) < n5) (bd12 : n5 < 2 ^ 31) (k13 : ((m2 / 64) + 1) ≤ m4 → Q (.inl none) (wset w a3 (arL n5 (upF g6 (m2 / 64) ((g6 (m2 / 64)) ||| (1 <<< (((nI m2) : Int32).toInt64 &&& 63))))))) (k14 : ¬ ((m2 / 64) + 1) ≤ m4 → ((m2 / 64) + 1) ≤ n5 → Q (.inl none) (wset (wset w a1 (.inl (nJ21, [.ref a3, .int (nI ((m2 / 64) + 1)), .int 0]))) a3 (arL n5 (upF g6 (m2 / 64) ((g6 (m2 / 64)) ||| (1 <<< (((nI m2) : Int32).toInt64 &&& 63))))))) (k15 : ¬ ((m2 / 64) + 1) ≤ m4 → ¬ ((m2 / 64) + 1) ≤ n5 → (2 * n5) < ((m2 / 64) + 1) → Q (.inl none) (wset (wset (wnew w (arL ((m2 / 64) + 1) (va_cpy g6 (fun _ => 0) 0 0 n5)) ((m2 / 64) + 1)) a1 (.inl (nJ21, [.ref w.2.1, .int (nI ((m2 / 64) + 1)), .int 0]))) w.2.1 (arL ((m2 / 64) + 1) (upF (va_cpy g6 (fun _ => 0) 0 0 n5) (m2 / 64) (((va_cpy g6 (fun _ => 0) 0 0 n5) (m2 / 64)) ||| (1 <<< (((nI m2) : Int32).toInt64 &&& 63))))))) (bd16 : (2 * n5) < 2 ^ 31) (k17 : ¬ ((m2 / 64) + 1) ≤ m4 → ¬ ((m2 / 64) + 1) ≤ n5 → ¬ (2 * n5) < ((m2 / 64) + 1) → Q (.inl none) (wset (wset (wnew w (arL (2 * n5) (va_cpy g6 (fun _ => 0) 0 0 n5)) (2 * n5)) a1 (.inl (nJ21, [.ref w.2.1, .int (nI ((m2 / 64) + 1)), .int 0]))) w.2.1 (arL (2 * n5) (upF (va_cpy g6 (fun _ => 0) 0 0 n5) (m2 / 64) (((va_cpy g6 (fun _ => 0) 0 0 n5) (m2 / 64)) ||| (1 <<< (((nI m2) : Int32).toInt64 &&& 63))))))) : Ev G mJ21_set [.ref a1, .int (nI m2)] w Q := by
  show Rn G mJ21_set 0 [(0, .ref a1), (1, .int (nI m2))] [] w Q
  refine Rn.wok fun hwk => ?_
  refine r_iload_n 0 1 1 rfl rfl rfl ?_
  refine y_if_ge (a := m2) bd1 1 4 31 rfl rfl rfl (fun _ => ?_) (fun c => absurd (by omega) c)
  refine r_iload_n 14 32 1 rfl rfl rfl ?_
  refine r_callS lkS_J21_52 15 35 rfl rfl (by decide) [.int (nI m2)] rfl rfl (Nat.le_of_ble_eq_true rfl) (Nat.le_of_ble_eq_true rfl) (e_J21_wordIndex hS (m1 := m2) (bd1 := (by omega)) (k2 := ?_)) (fun _ _ h => h)
  show Rn G mJ21_set 35 [(0, .ref a1), (1, .int (nI m2))] [.int (nI (m2 / 64))] w _
  refine r_istore_n (lv' := [(2, .int (nI (m2 / 64))), (0, .ref a1), (1, .int (nI m2))]) 16 36 rfl rfl (Nat.le_of_ble_eq_true rfl) rfl ?_
  refine r_aload_n 17 37 1 rfl rfl rfl ?_
  refine r_iload_n 18 38 0 rfl rfl rfl ?_
  refine r_callV lkV_J21_155_J21 (C := RJ21) (TT := TJ21) (NN := 3) rfl (Or.inl o2) 19 41 rfl rfl (by decide) [.int (nI (m2 / 64))] rfl rfl (Nat.le_of_ble_eq_true rfl) (Nat.le_of_ble_eq_true rfl) (e_J21_expandTo hS (m4 := m4) (m2 := (m2 / 64)) (o1 := o2) (bd2 := b4) (bd3 := (by omega)) (o5 := (Or.inl o3)) (b6 := b5) (b7 := b6) (b8 := b7) (hg9 := hg8) (b10 := b9) (hg11 := hg10) (k4 := fun z0_0 => ?_) (k12 := fun z0_0 => fun z0_1 => ?_) (k13 := fun z0_0 => fun z0_1 => fun z0_2 => ?_) (k14 := fun z0_0 => fun z0_1 => fun z0_2 => ?_)) (fun _ _ h => h)
  · show Rn G mJ21_set 41 [(2, .int (nI (m2 / 64))), (0, .ref a1), (1, .int (nI m2))] [] w _
    refine r_aload_n 20 42 1 rfl rfl rfl ?_
    refine r_get (v := .ref a3) fl_J21_11_J21 21 45 rfl rfl (Or.inl o2) rfl ?_
    refine r_iload_n 22 46 0 rfl rfl rfl ?_
    refine r_dup2 23 47 rfl rfl rfl rfl ?_
    refine y_lald (i := (m2 / 64)) 24 48 rfl rfl (Or.inl o3) (b11 z0_0) bd12 ?_
    refine r_lconst (v := 1) 25 49 rfl rfl rfl ?_
    refine r_iload_n 26 50 2 rfl rfl rfl ?_
    refine r_lshl 27 51 rfl rfl ?_
    refine r_lor 28 52 rfl rfl ?_
    refine y_last (i := (m2 / 64)) 29 53 rfl rfl o3 (b11 z0_0) (by omega) ?_
    show Rn G mJ21_set 53 [(2, .int (nI (m2 / 64))), (0, .ref a1), (1, .int (nI m2))] [] (wset w a3 (arL n5 (upF g6 (m2 / 64) ((g6 (m2 / 64)) ||| (1 <<< (((nI m2) : Int32).toInt64 &&& 63)))))) _
    refine r_aload_n 30 54 1 rfl rfl rfl ?_
    refine r_callV lkV_J21_56_J21 (C := RJ21) (TT := TJ21) (NN := 3) rfl (Or.inl (wset_n o2 (Lk.ne (Or.inl o2) o3 hwk (by intro h; simp at h)))) 31 57 rfl rfl (by decide) [] rfl rfl (Nat.le_of_ble_eq_true rfl) (Nat.le_of_ble_eq_true rfl) (e_J21_checkInvariants hS (k1 := ?_)) (fun _ _ h => h)
    show Rn G mJ21_set 57 [(2, .int (nI (m2 / 64))), (0, .ref a1), (1, .int (nI m2))] [] (wset w a3 (arL n5 (upF g6 (m2 / 64) ((g6 (m2 / 64)) ||| (1 <<< (((nI m2) : Int32).toInt64 &&& 63)))))) _
    exact r_vret 32 rfl rfl (k13 z0_0)
  · show Rn G mJ21_set 41 [(2, .int (nI (m2 / 64))), (0, .ref a1), (1, .int (nI m2))] [] (wset w a1 (.inl (nJ21, [.ref a3, .int (nI ((m2 / 64) + 1)), .int 0]))) _
    refine r_aload_n 20 42 1 rfl rfl rfl ?_
    refine r_get (v := .ref a3) fl_J21_11_J21 21 45 rfl rfl (Or.inl wset_s) rfl ?_
    refine r_iload_n 22 46 0 rfl rfl rfl ?_
    refine r_dup2 23 47 rfl rfl rfl rfl ?_
    refine y_lald (i := (m2 / 64)) 24 48 rfl rfl (Or.inl (wset_n o3 (Lk.ne (Or.inl o3) o2 hwk (by intro h; simp at h)))) (by omega) (by omega) ?_
    refine r_lconst (v := 1) 25 49 rfl rfl rfl ?_
    refine r_iload_n 26 50 2 rfl rfl rfl ?_
    refine r_lshl 27 51 rfl rfl ?_
    refine r_lor 28 52 rfl rfl ?_
    refine y_last (i := (m2 / 64)) 29 53 rfl rfl (wset_n o3 (Lk.ne (Or.inl o3) o2 hwk (by intro h; simp at h))) (by omega) (by omega) ?_
    show Rn G mJ21_set 53 [(2, .int (nI (m2 / 64))), (0, .ref a1), (1, .int (nI m2))] [] (wset (wset w a1 (.inl (nJ21, [.ref a3, .int (nI ((m2 / 64) + 1)), .int 0]))) a3 (arL n5 (upF g6 (m2 / 64) ((g6 (m2 / 64)) ||| (1 <<< (((nI m2) : Int32).toInt64 &&& 63)))))) _
    refine r_aload_n 30 54 1 rfl rfl rfl ?_
    refine r_callV lkV_J21_56_J21 (C := RJ21) (TT := TJ21) (NN := 3) rfl (Or.inl (wset_n wset_s (Lk.ne (Or.inl o2) o3 hwk (by intro h; simp at h)))) 31 57 rfl rfl (by decide) [] rfl rfl (Nat.le_of_ble_eq_true rfl) (Nat.le_of_ble_eq_true rfl) (e_J21_checkInvariants hS (k1 := ?_)) (fun _ _ h => h)
    show Rn G mJ21_set 57 [(2, .int (nI (m2 / 64))), (0, .ref a1), (1, .int (nI m2))] [] (wset (wset w a1 (.inl (nJ21, [.ref a3, .int (nI ((m2 / 64) + 1)), .int 0]))) a3 (arL n5 (upF g6 (m2 / 64) ((g6 (m2 / 64)) ||| (1 <<< (((nI m2) : Int32).toInt64 &&& 63)))))) _
    exact r_vret 32 rfl rfl (k14 z0_0 z0_1)
  · show Rn G mJ21_set 41 [(2, .int (nI (m2 / 64))), (0, .ref a1), (1, .int (nI m2))] [] (wset (wnew w (arL ((m2 / 64) + 1) (va_cpy g6 (fun _ => 0) 0 0 n5)) ((m2 / 64) + 1)) a1 (.inl (nJ21, [.ref w.2.1, .int (nI ((m2 / 64) + 1)), .int 0]))) _
    refine r_aload_n 20 42 1 rfl rfl rfl ?_
    refine r_get (v := .ref w.2.1) fl_J21_11_J21 21 45 rfl rfl (Or.inl wset_s) rfl ?_
    refine r_iload_n 22 46 0 rfl rfl rfl ?_
    refine r_dup2 23 47 rfl rfl rfl rfl ?_
    refine y_lald (i := (m2 / 64)) 24 48 rfl rfl (Or.inl (wset_n wnew_s (Ne.symm (Nat.ne_of_lt (show a1 < w.2.1 from (by have := (hwk.1 _ _ o2).2; omega)))))) (by omega) (by omega) ?_
    refine r_lconst (v := 1) 25 49 rfl rfl rfl ?_
    refine r_iload_n 26 50 2 rfl rfl rfl ?_
    refine r_lshl 27 51 rfl rfl ?_
    refine r_lor 28 52 rfl rfl ?_
    refine y_last (i := (m2 / 64)) 29 53 rfl rfl (wset_n wnew_s (Ne.symm (Nat.ne_of_lt (show a1 < w.2.1 from (by have := (hwk.1 _ _ o2).2; omega))))) (by omega) (by omega) ?_
    show Rn G mJ21_set 53 [(2, .int (nI (m2 / 64))), (0, .ref a1), (1, .int (nI m2))] [] (wset (wset (wnew w (arL ((m2 / 64) + 1) (va_cpy g6 (fun _ => 0) 0 0 n5)) ((m2 / 64) + 1)) a1 (.inl (nJ21, [.ref w.2.1, .int (nI ((m2 / 64) + 1)), .int 0]))) w.2.1 (arL ((m2 / 64) + 1) (upF (va_cpy g6 (fun _ => 0) 0 0 n5) (m2 / 64) (((va_cpy g6 (fun _ => 0) 0 0 n5) (m2 / 64)) ||| (1 <<< (((nI m2) : Int32).toInt64 &&& 63)))))) _
    refine r_aload_n 30 54 1 rfl rfl rfl ?_
    refine r_callV lkV_J21_56_J21 (C := RJ21) (TT := TJ21) (NN := 3) rfl (Or.inl (wset_n wset_s (Nat.ne_of_lt (show a1 < w.2.1 from (by have := (hwk.1 _ _ o2).2; omega))))) 31 57 rfl rfl (by decide) [] rfl rfl (Nat.le_of_ble_eq_true rfl) (Nat.le_of_ble_eq_true rfl) (e_J21_checkInvariants hS (k1 := ?_)) (fun _ _ h => h)
    show Rn G mJ21_set 57 [(2, .int (nI (m2 / 64))), (0, .ref a1), (1, .int (nI m2))] [] (wset (wset (wnew w (arL ((m2 / 64) + 1) (va_cpy g6 (fun _ => 0) 0 0 n5)) ((m2 / 64) + 1)) a1 (.inl (nJ21, [.ref w.2.1, .int (nI ((m2 / 64) + 1)), .int 0]))) w.2.1 (arL ((m2 / 64) + 1) (upF (va_cpy g6 (fun _ => 0) 0 0 n5) (m2 / 64) (((va_cpy g6 (fun _ => 0) 0 0 n5) (m2 / 64)) ||| (1 <<< (((nI m2) : Int32).toInt64 &&& 63)))))) _
    exact r_vret 32 rfl rfl (k15 z0_0 z0_1 z0_2)
  · show Rn G mJ21_set 41 [(2, .int (nI (m2 / 64))), (0, .ref a1), (1, .int (nI m2))] [] (wset (wnew w (arL (2 * n5) (va_cpy g6 (fun _ => 0) 0 0 n5)) (2 * n5)) a1 (.inl (nJ21, [.ref w.2.1, .int (nI ((m2 / 64) + 1)), .int 0]))) _
    refine r_aload_n 20 42 1 rfl rfl rfl ?_
    refine r_get (v := .ref w.2.1) fl_J21_11_J21 21 45 rfl rfl (Or.inl wset_s) rfl ?_
    refine r_iload_n 22 46 0 rfl rfl rfl ?_
    refine r_dup2 23 47 rfl rfl rfl rfl ?_
    refine y_lald (i := (m2 / 64)) 24 48 rfl rfl (Or.inl (wset_n wnew_s (Ne.symm (Nat.ne_of_lt (show a1 < w.2.1 from (by have := (hwk.1 _ _ o2).2; omega)))))) (by omega) bd16 ?_
    refine r_lconst (v := 1) 25 49 rfl rfl rfl ?_
    refine r_iload_n 26 50 2 rfl rfl rfl ?_
    refine r_lshl 27 51 rfl rfl ?_
    refine r_lor 28 52 rfl rfl ?_
    refine y_last (i := (m2 / 64)) 29 53 rfl rfl (wset_n wnew_s (Ne.symm (Nat.ne_of_lt (show a1 < w.2.1 from (by have := (hwk.1 _ _ o2).2; omega))))) (by omega) (by omega) ?_
    show Rn G mJ21_set 53 [(2, .int (nI (m2 / 64))), (0, .ref a1), (1, .int (nI m2))] [] (wset (wset (wnew w (arL (2 * n5) (va_cpy g6 (fun _ => 0) 0 0 n5)) (2 * n5)) a1 (.inl (nJ21, [.ref w.2.1, .int (nI ((m2 / 64) + 1)), .int 0]))) w.2.1 (arL (2 * n5) (upF (va_cpy g6 (fun _ => 0) 0 0 n5) (m2 / 64) (((va_cpy g6 (fun _ => 0) 0 0 n5) (m2 / 64)) ||| (1 <<< (((nI m2) : Int32).toInt64 &&& 63)))))) _
    refine r_aload_n 30 54 1 rfl rfl rfl ?_
    refine r_callV lkV_J21_56_J21 (C := RJ21) (TT := TJ21) (NN := 3) rfl (Or.inl (wset_n wset_s (Nat.ne_of_lt (show a1 < w.2.1 from (by have := (hwk.1 _ _ o2).2; omega))))) 31 57 rfl rfl (by decide) [] rfl rfl (Nat.le_of_ble_eq_true rfl) (Nat.le_of_ble_eq_true rfl) (e_J21_checkInvariants hS (k1 := ?_)) (fun _ _ h => h)
    show Rn G mJ21_set 57 [(2, .int (nI (m2 / 64))), (0, .ref a1), (1, .int (nI m2))] [] (wset (wset (wnew w (arL (2 * n5) (va_cpy g6 (fun _ => 0) 0 0 n5)) (2 * n5)) a1 (.inl (nJ21, [.ref w.2.1, .int (nI ((m2 / 64) + 1)), .int 0]))) w.2.1 (arL (2 * n5) (upF (va_cpy g6 (fun _ => 0) 0 0 n5) (m2 / 64) (((va_cpy g6 (fun _ => 0) 0 0 n5) (m2 / 64)) ||| (1 <<< (((nI m2) : Int32).toInt64 &&& 63)))))) _
    exact r_vret 32 rfl rfl (k17 z0_0 z0_1 z0_2)
theorem e_J21_clear {G : Gm} {κ : Nat → Nat} {φ : Nat → Option Nat} (hS : GS G κ φ) {w : Wd} {Q : Rs → Wd → Prop} {a1 : Nat} {a2 : Nat} {m3 : Nat} {n4 : Nat} {g5 : Nat → Int64} (o1 : w.1 a1 = some (.inl (nJ21, [.ref a2, .int (nI m3), .int 0]))) (bd2 : m3 < 2 ^ 31) (k3 : m3 ≤ 0 → Q (.inl none) w) (o4 : w.1 a2 = some (arL n4 g5)) (b5 : ¬ m3 ≤ 0 → (m3 - 1) < n4) (bd6 : n4 < 2 ^ 31) (k7 : ¬ m3 ≤ 0 → Rn G mJ21_clear 0 [(0, .ref a1)] [] (wset (wset w a1 (.inl (nJ21, [.ref a2, .int (nI (m3 - 1)), .int 0]))) a2 (arL n4 (upF g5 (m3 - 1) 0))) Q) : Ev G mJ21_clear [.ref a1] w Q := by
  show Rn G mJ21_clear 0 [(0, .ref a1)] [] w Q
  refine Rn.wok fun hwk => ?_
  refine r_aload_n 0 1 0 rfl rfl rfl ?_
  refine r_get (v := .int (nI m3)) fl_J21_7_J21 1 4 rfl rfl (Or.inl o1) rfl ?_
  refine y_if_le (a := m3) bd2 2 7 27 rfl rfl rfl (fun c1 => ?_) (fun c1 => ?_)
  · exact r_vret 15 rfl rfl (k3 c1)
  · refine r_aload_n 3 8 0 rfl rfl rfl ?_
    refine r_get (v := .ref a2) fl_J21_11_J21 4 11 rfl rfl (Or.inl o1) rfl ?_
    refine r_aload_n 5 12 0 rfl rfl rfl ?_
    refine r_dup 6 13 rfl rfl rfl ?_
    refine r_get (v := .int (nI m3)) fl_J21_7_J21 7 16 rfl rfl (Or.inl o1) rfl ?_
    refine r_iconst 8 17 rfl rfl di_1 ?_
    refine r_isub 9 18 rfl rfl ?_
    refine x_eq (y := (nI (m3 - 1))) (pk_sub (a := m3) (b := 1) (by omega)) ?_
    refine r_dup_x1 10 19 rfl rfl rfl rfl ?_
    refine r_put (i := 1) fl_J21_7_J21 in_J21 q616 (ty0 := tyJ21) tyJ21_ok nmJ21 11 22 rfl rfl o1 rfl rfl rfl (Nat.le_of_ble_eq_true rfl) ?_
    show Rn G mJ21_clear 22 [(0, .ref a1)] [.int (nI (m3 - 1)), .ref a2] (wset w a1 (.inl (nJ21, [.ref a2, .int (nI (m3 - 1)), .int 0]))) _
    refine r_lconst (v := 0) 12 23 rfl rfl rfl ?_
    refine y_last (i := (m3 - 1)) 13 24 rfl rfl (wset_n o4 (Lk.ne (Or.inl o4) o1 hwk (by intro h; simp at h))) (b5 c1) bd6 ?_
    show Rn G mJ21_clear 24 [(0, .ref a1)] [] (wset (wset w a1 (.inl (nJ21, [.ref a2, .int (nI (m3 - 1)), .int 0]))) a2 (arL n4 (upF g5 (m3 - 1) 0))) _
    refine r_goto 14 0 rfl rfl ?_
    exact (k7 c1)
theorem e_J20_stringSize {G : Gm} {κ : Nat → Nat} {φ : Nat → Option Nat} (hS : GS G κ φ) {w : Wd} {Q : Rs → Wd → Prop} {x1 : Int32} (k1 : x1 < 0 → Rn G mJ20_stringSize 16 [(0, .int x1), (1, .int 1), (2, .int (-10)), (3, .int 1)] [] w Q) (k2 : ¬ x1 < 0 → Rn G mJ20_stringSize 16 [(0, .int (-x1)), (1, .int 0), (2, .int (-10)), (3, .int 1)] [] w Q) : Ev G mJ20_stringSize [.int x1] w Q := by
  show Rn G mJ20_stringSize 0 [(0, .int x1)] [] w Q
  refine r_iconst 0 1 rfl rfl di_1 ?_
  refine r_istore_n (lv' := [(1, .int 1), (0, .int x1)]) 1 2 rfl rfl (Nat.le_of_ble_eq_true rfl) rfl ?_
  refine r_iload_n 2 3 1 rfl rfl rfl ?_
  refine r_if_lt 3 6 11 rfl rfl rfl (fun c1 => ?_) (fun c1 => ?_)
  · refine r_bipush 9 13 rfl rfl db_m10 ?_
    refine r_istore_n (lv' := [(2, .int (-10)), (1, .int 1), (0, .int x1)]) 10 14 rfl rfl (Nat.le_of_ble_eq_true rfl) rfl ?_
    refine r_iconst 11 15 rfl rfl di_1 ?_
    refine r_istore_n (lv' := [(3, .int 1), (2, .int (-10)), (1, .int 1), (0, .int x1)]) 12 16 rfl rfl (Nat.le_of_ble_eq_true rfl) rfl ?_
    exact r_sub [3, 2, 1, 0] rfl (k1 c1)
  · refine r_iconst 4 7 rfl rfl di_0 ?_
    refine r_istore_n (lv' := [(1, .int 0), (0, .int x1)]) 5 8 rfl rfl (Nat.le_of_ble_eq_true rfl) rfl ?_
    refine r_iload_n 6 9 1 rfl rfl rfl ?_
    refine r_ineg 7 10 rfl rfl ?_
    refine r_istore_n (lv' := [(0, .int (-x1)), (1, .int 0)]) 8 11 rfl rfl (Nat.le_of_ble_eq_true rfl) rfl ?_
    refine r_bipush 9 13 rfl rfl db_m10 ?_
    refine r_istore_n (lv' := [(2, .int (-10)), (0, .int (-x1)), (1, .int 0)]) 10 14 rfl rfl (Nat.le_of_ble_eq_true rfl) rfl ?_
    refine r_iconst 11 15 rfl rfl di_1 ?_
    refine r_istore_n (lv' := [(3, .int 1), (2, .int (-10)), (0, .int (-x1)), (1, .int 0)]) 12 16 rfl rfl (Nat.le_of_ble_eq_true rfl) rfl ?_
    exact r_sub [2, 3, 1, 0] rfl (k2 c1)
theorem e_J20_stringSize_16 {G : Gm} {κ : Nat → Nat} {φ : Nat → Option Nat} (hS : GS G κ φ) {w : Wd} {Q : Rs → Wd → Prop} {x1 : Int32} {x2 : Int32} {x3 : Int32} {x4 : Int32} (k1 : (10 : Int32) ≤ x4 → Q (.inl (some (.int ((10 : Int32) + x2)))) w) (k2 : ¬ (10 : Int32) ≤ x4 → x1 ≤ x3 → Rn G mJ20_stringSize 16 [(0, .int x1), (1, .int x2), (2, .int ((10 : Int32) * x3)), (3, .int (x4 + 1))] [] w Q) (k3 : ¬ (10 : Int32) ≤ x4 → ¬ x1 ≤ x3 → Q (.inl (some (.int (x4 + x2)))) w) : Rn G mJ20_stringSize 16 [(0, .int x1), (1, .int x2), (2, .int x3), (3, .int x4)] [] w Q := by
  refine r_iload_n 13 17 3 rfl rfl rfl ?_
  refine r_bipush 14 19 rfl rfl db_10 ?_
  refine r_icmp_ge 15 22 42 rfl rfl rfl (fun c1 => ?_) (fun c1 => ?_)
  · refine r_bipush 29 44 rfl rfl db_10 ?_
    refine r_iload_n 30 45 1 rfl rfl rfl ?_
    refine r_iadd 31 46 rfl rfl ?_
    exact r_iret 32 rfl rfl rfl (k1 c1)
  · refine r_iload_n 16 23 0 rfl rfl rfl ?_
    refine r_iload_n 17 24 2 rfl rfl rfl ?_
    refine r_icmp_le 18 27 31 rfl rfl rfl (fun c2 => ?_) (fun c2 => ?_)
    · refine r_bipush 23 33 rfl rfl db_10 ?_
      refine r_iload_n 24 34 2 rfl rfl rfl ?_
      refine r_imul 25 35 rfl rfl ?_
      refine r_istore_n (lv' := [(2, .int ((10 : Int32) * x3)), (0, .int x1), (1, .int x2), (3, .int x4)]) 26 36 rfl rfl (Nat.le_of_ble_eq_true rfl) rfl ?_
      refine r_iinc (v := (x4 + 1)) (lv' := [(3, .int (x4 + 1)), (2, .int ((10 : Int32) * x3)), (0, .int x1), (1, .int x2)]) 27 39 3 rfl rfl rfl (congrArg (fun z => x4 + z) di_1) (Nat.le_of_ble_eq_true rfl) rfl ?_
      refine r_goto 28 16 rfl rfl ?_
      exact r_sub [2, 3, 1, 0] rfl (k2 c1 c2)
    · refine r_iload_n 19 28 3 rfl rfl rfl ?_
      refine r_iload_n 20 29 1 rfl rfl rfl ?_
      refine r_iadd 21 30 rfl rfl ?_
      exact r_iret 22 rfl rfl rfl (k3 c1 c2)
theorem e_J17_equals {G : Gm} {κ : Nat → Nat} {φ : Nat → Option Nat} (hS : GS G κ φ) {w : Wd} {Q : Rs → Wd → Prop} {a1 : Nat} {a2 : Nat} {n3 : Nat} {g4 : Nat → Nat} {n5 : Nat} {g6 : Nat → Nat} (o1 : Lk G w a1 (arB n3 g4)) (o2 : Lk G w a2 (arB n5 g6)) (bd3 : n3 < 2 ^ 31) (bd4 : n5 < 2 ^ 31) (k5 : ¬ n3 = n5 → Q (.inl (some (.int 0))) w) (k6 : n3 = n5 → Rn G mJ17_equals 9 [(0, .ref a1), (1, .ref a2), (2, .int 0)] [] w Q) : Ev G mJ17_equals [.ref a1, .ref a2] w Q := by
  show Rn G mJ17_equals 0 [(0, .ref a1), (1, .ref a2)] [] w Q
  refine r_aload_n 0 1 0 rfl rfl rfl ?_
  refine r_alen 1 2 rfl rfl o1 ?_
  refine r_aload_n 2 3 1 rfl rfl rfl ?_
  refine r_alen 3 4 rfl rfl o2 ?_
  refine y_icmp_ne (a := n3) (b := n5) bd3 bd4 4 7 34 rfl rfl rfl (fun c1 => ?_) (fun c1 => ?_)
  · refine r_iconst 24 35 rfl rfl di_0 ?_
    exact r_iret 25 rfl rfl (by decide) (k5 c1)
  · refine r_iconst 5 8 rfl rfl di_0 ?_
    refine r_istore_n (lv' := [(2, .int 0), (0, .ref a1), (1, .ref a2)]) 6 9 rfl rfl (Nat.le_of_ble_eq_true rfl) rfl ?_
    exact r_sub [1, 2, 0] rfl (k6 c1)
theorem e_J17_equals_9 {G : Gm} {κ : Nat → Nat} {φ : Nat → Option Nat} (hS : GS G κ φ) {w : Wd} {Q : Rs → Wd → Prop} {a1 : Nat} {a2 : Nat} {m3 : Nat} {n4 : Nat} {g5 : Nat → Nat} {n6 : Nat} {g7 : Nat → Nat} (o1 : Lk G w a1 (arB n4 g5)) (bd2 : m3 < 2 ^ 31) (bd3 : n4 < 2 ^ 31) (k4 : n4 ≤ m3 → Q (.inl (some (.int 1))) w) (o5 : Lk G w a2 (arB n6 g7)) (b6 : ¬ n4 ≤ m3 → m3 < n6) (bd7 : n6 < 2 ^ 31) (bd8 : (g5 m3) < 2 ^ 31) (bd9 : (g7 m3) < 2 ^ 31) (k10 : ¬ n4 ≤ m3 → (g5 m3) = (g7 m3) → Rn G mJ17_equals 9 [(0, .ref a1), (1, .ref a2), (2, .int (nI (m3 + 1)))] [] w Q) (k11 : ¬ n4 ≤ m3 → ¬ (g5 m3) = (g7 m3) → Q (.inl (some (.int 0))) w) : Rn G mJ17_equals 9 [(0, .ref a1), (1, .ref a2), (2, .int (nI m3))] [] w Q := by
  refine r_iload_n 7 10 2 rfl rfl rfl ?_
  refine r_aload_n 8 11 0 rfl rfl rfl ?_
  refine r_alen 9 12 rfl rfl o1 ?_
  refine y_icmp_ge (a := m3) (b := n4) bd2 bd3 10 15 32 rfl rfl rfl (fun c1 => ?_) (fun c1 => ?_)
  · refine r_iconst 22 33 rfl rfl di_1 ?_
    exact r_iret 23 rfl rfl (by decide) (k4 c1)
  · refine r_aload_n 11 16 0 rfl rfl rfl ?_
    refine r_iload_n 12 17 2 rfl rfl rfl ?_
    refine y_bald (i := m3) 13 18 rfl rfl o1 (by omega) (by omega) ?_
    refine r_aload_n 14 19 1 rfl rfl rfl ?_
    refine r_iload_n 15 20 2 rfl rfl rfl ?_
    refine y_bald (i := m3) 16 21 rfl rfl o5 (b6 c1) bd7 ?_
    refine y_icmp_eq (a := (g5 m3)) (b := (g7 m3)) bd8 bd9 17 24 26 rfl rfl rfl (fun c2 => ?_) (fun c2 => ?_)
    · refine r_iinc (v := (nI (m3 + 1))) (lv' := [(2, .int (nI (m3 + 1))), (0, .ref a1), (1, .ref a2)]) 20 29 2 rfl rfl rfl (by rw [di_1]; exact nI_add _ _) (Nat.le_of_ble_eq_true rfl) rfl ?_
      refine r_goto 21 9 rfl rfl ?_
      exact r_sub [1, 2, 0] rfl (k10 c1 c2)
    · refine r_iconst 18 25 rfl rfl di_0 ?_
      exact r_iret 19 rfl rfl (by decide) (k11 c1 c2)
theorem e_J2_equals {G : Gm} {κ : Nat → Nat} {φ : Nat → Option Nat} (hS : GS G κ φ) {w : Wd} {Q : Rs → Wd → Prop} {a1 : Nat} {a2 : Nat} {a3 : Nat} {x4 : Int32} {x5 : Int32} {a6 : Nat} {x7 : Int32} {x8 : Int32} (o1 : Lk G w a2 (.inl (nJ2, [.ref a3, .int 0, .int x4, .int x5]))) (o2 : Lk G w a1 (.inl (nJ2, [.ref a6, .int 0, .int x7, .int x8]))) {Q3 : Rs → Wd → Prop} (e3 : ¬ a1 = a2 → Ev G mJ17_equals [.ref a6, .ref a3] w Q3) (k3 : ¬ a1 = a2 → ∀ r w', Q3 r w' → Af G mJ2_equals 44 47 [] [] r w' Q) (k4 : a1 = a2 → Q (.inl (some (.int 1))) w) : Ev G mJ2_equals [.ref a1, .ref a2] w Q := by
  show Rn G mJ2_equals 0 [(0, .ref a1), (1, .ref a2)] [] w Q
  refine r_aload_n 0 1 0 rfl rfl rfl ?_
  refine r_aload_n 1 2 1 rfl rfl rfl ?_
  refine r_acmp_ne (rx := (some a1)) (ry := (some a2)) 2 5 7 rfl rfl rfl rfl rfl (fun c1 => ?_) (fun c1 => ?_)
  · refine r_aload_n 5 8 1 rfl rfl rfl ?_
    refine r_instS (C := RJ2) (TT := TJ2) (NN := 4) rfl q731 6 11 rfl rfl o1 ?_
    refine r_if_eq 7 14 54 rfl rfl rfl (fun c => absurd c (by decide)) (fun _ => ?_)
    refine r_aload_n 8 15 1 rfl rfl rfl ?_
    refine r_castS (C := RJ2) (TT := TJ2) (NN := 4) rfl q731 9 18 rfl rfl o1 ?_
    refine r_astore_n (lv' := [(2, .ref a2), (0, .ref a1), (1, .ref a2)]) 10 19 rfl rfl (Nat.le_of_ble_eq_true rfl) rfl ?_
    refine r_gets (v := .int 1) (hS 50) q511 11 22 rfl rfl ?_
    refine r_if_eq 12 25 36 rfl rfl rfl (fun c => absurd c (by decide)) (fun _ => ?_)
    refine r_aload_n 13 26 1 rfl rfl rfl ?_
    refine r_get (v := .int 0) fl_J2_15_J2 14 29 rfl rfl o2 rfl ?_
    refine r_aload_n 15 30 0 rfl rfl rfl ?_
    refine r_get (v := .int 0) fl_J2_15_J2 16 33 rfl rfl o1 rfl ?_
    refine r_icmp_ne 17 36 54 rfl rfl rfl (fun c => absurd c (by decide)) (fun _ => ?_)
    refine r_aload_n 18 37 1 rfl rfl rfl ?_
    refine r_get (v := .ref a6) fl_J2_9_J2 19 40 rfl rfl o2 rfl ?_
    refine r_aload_n 20 41 0 rfl rfl rfl ?_
    refine r_get (v := .ref a3) fl_J2_9_J2 21 44 rfl rfl o1 rfl ?_
    exact r_callS lkS_J2_541 22 47 rfl rfl (by decide) [.ref a6, .ref a3] rfl rfl (Nat.le_of_ble_eq_true rfl) (Nat.le_of_ble_eq_true rfl) (e3 (fun h => c1 (congrArg some h))) (fun r w' h => Af.sub [] rfl ((k3 (fun h => c1 (congrArg some h))) r w' h))
  · refine r_iconst 3 6 rfl rfl di_1 ?_
    exact r_iret 4 rfl rfl (by decide) (k4 (Option.some.inj c1))
theorem e_J2_equals_47 {G : Gm} {κ : Nat → Nat} {φ : Nat → Option Nat} (hS : GS G κ φ) {w : Wd} {Q : Rs → Wd → Prop} {x1 : Int32} (k1 : x1 = 0 → Q (.inl (some (.int 0))) w) (k2 : ¬ x1 = 0 → Q (.inl (some (.int 1))) w) : Rn G mJ2_equals 47 [] [.int x1] w Q := by
  refine r_if_eq 23 50 54 rfl rfl rfl (fun c1 => ?_) (fun c1 => ?_)
  · refine r_iconst 26 55 rfl rfl di_0 ?_
    exact r_iret 27 rfl rfl (by decide) (k1 c1)
  · refine r_iconst 24 51 rfl rfl di_1 ?_
    refine r_goto 25 55 rfl rfl ?_
    exact r_iret 27 rfl rfl (by decide) (k2 c1)
theorem e_J17_indexOfChar {G : Gm} {κ : Nat → Nat} {φ : Nat → Option Nat} (hS : GS G κ φ) {w : Wd} {Q : Rs → Wd → Prop} {a1 : Nat} {m2 : Nat} {m3 : Nat} (q1 : m2 < 128) (k2 : Rn G mJ17_indexOfChar 7 [(0, .ref a1), (3, .int (nI m3)), (4, .int (nI m2)), (5, .int 0)] [] w Q) : Ev G mJ17_indexOfChar [.ref a1, .int (nI m2), .int 0, .int (nI m3)] w Q := by
  show Rn G mJ17_indexOfChar 0 [(0, .ref a1), (1, .int (nI m2)), (2, .int 0), (3, .int (nI m3))] [] w Q
  refine r_iload_n 0 1 1 rfl rfl rfl ?_
  refine x_i2b 1 2 rfl rfl (n_toB q1) ?_
  refine r_istore (lv' := [(4, .int (nI m2)), (0, .ref a1), (1, .int (nI m2)), (2, .int 0), (3, .int (nI m3))]) 2 4 rfl rfl (Nat.le_of_ble_eq_true rfl) rfl ?_
  refine r_iload_n 3 5 3 rfl rfl rfl ?_
  refine r_istore (lv' := [(5, .int 0), (4, .int (nI m2)), (0, .ref a1), (1, .int (nI m2)), (2, .int 0), (3, .int (nI m3))]) 4 7 rfl rfl (Nat.le_of_ble_eq_true rfl) rfl ?_
  exact r_sub [2, 5, 1, 0] rfl k2
theorem e_J17_indexOfChar_7 {G : Gm} {κ : Nat → Nat} {φ : Nat → Option Nat} (hS : GS G κ φ) {w : Wd} {Q : Rs → Wd → Prop} {a1 : Nat} {m2 : Nat} {m3 : Nat} {m4 : Nat} {n5 : Nat} {g6 : Nat → Nat} (bd1 : m4 < 2 ^ 31) (bd2 : m2 < 2 ^ 31) (k3 : m2 ≤ m4 → Q (.inl (some (.int (-1)))) w) (o4 : Lk G w a1 (arB n5 g6)) (b5 : ¬ m2 ≤ m4 → m4 < n5) (bd6 : n5 < 2 ^ 31) (bd7 : (g6 m4) < 2 ^ 31) (bd8 : m3 < 2 ^ 31) (k9 : ¬ m2 ≤ m4 → ¬ (g6 m4) = m3 → Rn G mJ17_indexOfChar 7 [(0, .ref a1), (3, .int (nI m2)), (4, .int (nI m3)), (5, .int (nI (m4 + 1)))] [] w Q) (k10 : ¬ m2 ≤ m4 → (g6 m4) = m3 → Q (.inl (some (.int (nI m4)))) w) : Rn G mJ17_indexOfChar 7 [(0, .ref a1), (3, .int (nI m2)), (4, .int (nI m3)), (5, .int (nI m4))] [] w Q := by
  refine r_iload 5 9 3 rfl rfl rfl ?_
  refine r_iload_n 6 10 1 rfl rfl rfl ?_
  refine y_icmp_ge (a := m4) (b := m2) bd1 bd2 7 13 31 rfl rfl rfl (fun c1 => ?_) (fun c1 => ?_)
  · refine r_iconst 17 32 rfl rfl di_m1 ?_
    exact r_iret 18 rfl rfl rfl (k3 c1)
  · refine r_aload_n 8 14 0 rfl rfl rfl ?_
    refine r_iload 9 16 3 rfl rfl rfl ?_
    refine y_bald (i := m4) 10 17 rfl rfl o4 (b5 c1) bd6 ?_
    refine r_iload 11 19 2 rfl rfl rfl ?_
    refine y_icmp_ne (a := (g6 m4)) (b := m3) bd7 bd8 12 22 25 rfl rfl rfl (fun c2 => ?_) (fun c2 => ?_)
    · refine r_iinc (v := (nI (m4 + 1))) (lv' := [(5, .int (nI (m4 + 1))), (0, .ref a1), (3, .int (nI m2)), (4, .int (nI m3))]) 15 28 3 rfl rfl rfl (by rw [di_1]; exact nI_add _ _) (Nat.le_of_ble_eq_true rfl) rfl ?_
      refine r_goto 16 7 rfl rfl ?_
      exact r_sub [1, 2, 3, 0] rfl (k9 c1 c2)
    · refine r_iload 13 24 3 rfl rfl rfl ?_
      exact r_iret 14 rfl rfl rfl (k10 c1 c2)
theorem e_J17_indexOf {G : Gm} {κ : Nat → Nat} {φ : Nat → Option Nat} (hS : GS G κ φ) {w : Wd} {Q : Rs → Wd → Prop} {a1 : Nat} {m2 : Nat} {m3 : Nat} {n4 : Nat} {g5 : Nat → Nat} (b1 : m2 < 2 ^ 31) (k2 : m2 < 0 → Q (.inl (some (.int (-1)))) w) (k3 : ¬ m2 < 0 → 255 < m2 → Q (.inl (some (.int (-1)))) w) (o4 : Lk G w a1 (arB n4 g5)) (b5 : ¬ m2 < 0 → ¬ 255 < m2 → m3 < 2 ^ 31) (b6 : ¬ m2 < 0 → ¬ 255 < m2 → n4 < 2 ^ 31) (bd7 : n4 < 2 ^ 31) {Q8 : Rs → Wd → Prop} (e8 : ¬ m2 < 0 → ¬ 255 < m2 → n4 < m3 → 0 < n4 → Ev G mJ17_indexOfChar [.ref a1, .int (nI m2), .int 0, .int (nI n4)] w Q8) (k8 : ¬ m2 < 0 → ¬ 255 < m2 → n4 < m3 → 0 < n4 → ∀ r w', Q8 r w' → Af G mJ17_indexOf 33 36 [] [] r w' Q) (k9 : ¬ m2 < 0 → ¬ 255 < m2 → n4 < m3 → ¬ 0 < n4 → Q (.inl (some (.int (-1)))) w) (bd10 : m3 < 2 ^ 31) {Q11 : Rs → Wd → Prop} (e11 : ¬ m2 < 0 → ¬ 255 < m2 → ¬ n4 < m3 → 0 < m3 → Ev G mJ17_indexOfChar [.ref a1, .int (nI m2), .int 0, .int (nI m3)] w Q11) (k11 : ¬ m2 < 0 → ¬ 255 < m2 → ¬ n4 < m3 → 0 < m3 → ∀ r w', Q11 r w' → Af G mJ17_indexOf 33 36 [] [] r w' Q) (k12 : ¬ m2 < 0 → ¬ 255 < m2 → ¬ n4 < m3 → ¬ 0 < m3 → Q (.inl (some (.int (-1)))) w) : Ev G mJ17_indexOf [.ref a1, .int (nI m2), .int 0, .int (nI m3)] w Q := by
  show Rn G mJ17_indexOf 0 [(0, .ref a1), (1, .int (nI m2)), (2, .int 0), (3, .int (nI m3))] [] w Q
  refine r_iload_n 0 1 1 rfl rfl rfl ?_
  refine r_callS lkS_J17_88 1 4 rfl rfl (by decide) [.int (nI m2)] rfl rfl (Nat.le_of_ble_eq_true rfl) (Nat.le_of_ble_eq_true rfl) (e_J17_canEncode hS (m1 := m2) (bd1 := b1) (k2 := fun z0_0 => ?_) (k3 := fun z0_0 => fun z0_1 => ?_) (k4 := fun z0_0 => fun z0_1 => ?_)) (fun _ _ h => h)
  · show Rn G mJ17_indexOf 4 [(0, .ref a1), (1, .int (nI m2)), (2, .int 0), (3, .int (nI m3))] [.int 0] w _
    refine r_if_ne 2 7 9 rfl rfl rfl (fun c => absurd c (by decide)) (fun _ => ?_)
    refine r_iconst 3 8 rfl rfl di_m1 ?_
    exact r_iret 4 rfl rfl rfl (k2 z0_0)
  · show Rn G mJ17_indexOf 4 [(0, .ref a1), (1, .int (nI m2)), (2, .int 0), (3, .int (nI m3))] [.int 0] w _
    refine r_if_ne 2 7 9 rfl rfl rfl (fun c => absurd c (by decide)) (fun _ => ?_)
    refine r_iconst 3 8 rfl rfl di_m1 ?_
    exact r_iret 4 rfl rfl rfl (k3 z0_0 z0_1)
  · show Rn G mJ17_indexOf 4 [(0, .ref a1), (1, .int (nI m2)), (2, .int 0), (3, .int (nI m3))] [.int 1] w _
    refine r_if_ne 2 7 9 rfl rfl rfl (fun _ => ?_) (fun c => absurd c (by decide))
    refine r_iload_n 5 10 2 rfl rfl rfl ?_
    refine r_iconst 6 11 rfl rfl di_0 ?_
    refine r_callS lkS_J17_92 7 14 rfl rfl (by decide) [.int 0, .int 0] rfl rfl (Nat.le_of_ble_eq_true rfl) (Nat.le_of_ble_eq_true rfl) (e_J15_max hS (m2 := 0) (m1 := 0) (bd1 := (by omega)) (bd2 := (by omega)) (k3 := fun z0 => absurd z0 (by decide)) (k4 := fun z2_0 => ?_)) (fun _ _ h => h)
    show Rn G mJ17_indexOf 14 [(0, .ref a1), (1, .int (nI m2)), (2, .int 0), (3, .int (nI m3))] [.int 0] w _
    refine r_istore_n (lv' := [(2, .int 0), (0, .ref a1), (1, .int (nI m2)), (3, .int (nI m3))]) 8 15 rfl rfl (Nat.le_of_ble_eq_true rfl) rfl ?_
    refine r_iload_n 9 16 3 rfl rfl rfl ?_
    refine r_aload_n 10 17 1 rfl rfl rfl ?_
    refine r_alen 11 18 rfl rfl o4 ?_
    refine r_callS lkS_J17_38 12 21 rfl rfl (by decide) [.int (nI m3), .int (nI n4)] rfl rfl (Nat.le_of_ble_eq_true rfl) (Nat.le_of_ble_eq_true rfl) (e_J15_min hS (m2 := n4) (m1 := m3) (bd1 := (b5 z0_0 z0_1)) (bd2 := (b6 z0_0 z0_1)) (k3 := fun z2_0 => ?_) (k4 := fun z2_0 => ?_)) (fun _ _ h => h)
    · show Rn G mJ17_indexOf 21 [(2, .int 0), (0, .ref a1), (1, .int (nI m2)), (3, .int (nI m3))] [.int (nI n4)] w _
      refine r_istore_n (lv' := [(3, .int (nI n4)), (2, .int 0), (0, .ref a1), (1, .int (nI m2))]) 13 22 rfl rfl (Nat.le_of_ble_eq_true rfl) rfl ?_
      refine r_iload_n 14 23 1 rfl rfl rfl ?_
      refine r_iload_n 15 24 0 rfl rfl rfl ?_
      refine y_icmp_lt (a := 0) (b := n4) (by decide) bd7 16 27 29 rfl rfl rfl (fun c4 => ?_) (fun c4 => ?_)
      · refine r_aload_n 19 30 2 rfl rfl rfl ?_
        refine r_iload_n 20 31 3 rfl rfl rfl ?_
        refine r_iload_n 21 32 1 rfl rfl rfl ?_
        refine r_iload_n 22 33 0 rfl rfl rfl ?_
        exact r_callS lkS_J17_95 23 36 rfl rfl (by decide) [.ref a1, .int (nI m2), .int 0, .int (nI n4)] rfl rfl (Nat.le_of_ble_eq_true rfl) (Nat.le_of_ble_eq_true rfl) (e8 z0_0 z0_1 z2_0 c4) (fun r w' h => Af.sub [] rfl ((k8 z0_0 z0_1 z2_0 c4) r w' h))
      · refine r_iconst 17 28 rfl rfl di_m1 ?_
        exact r_iret 18 rfl rfl rfl (k9 z0_0 z0_1 z2_0 c4)
    · show Rn G mJ17_indexOf 21 [(2, .int 0), (0, .ref a1), (1, .int (nI m2)), (3, .int (nI m3))] [.int (nI m3)] w _
      refine r_istore_n (lv' := [(3, .int (nI m3)), (2, .int 0), (0, .ref a1), (1, .int (nI m2))]) 13 22 rfl rfl (Nat.le_of_ble_eq_true rfl) rfl ?_
      refine r_iload_n 14 23 1 rfl rfl rfl ?_
      refine r_iload_n 15 24 0 rfl rfl rfl ?_
      refine y_icmp_lt (a := 0) (b := m3) (by decide) bd10 16 27 29 rfl rfl rfl (fun c4 => ?_) (fun c4 => ?_)
      · refine r_aload_n 19 30 2 rfl rfl rfl ?_
        refine r_iload_n 20 31 3 rfl rfl rfl ?_
        refine r_iload_n 21 32 1 rfl rfl rfl ?_
        refine r_iload_n 22 33 0 rfl rfl rfl ?_
        exact r_callS lkS_J17_95 23 36 rfl rfl (by decide) [.ref a1, .int (nI m2), .int 0, .int (nI m3)] rfl rfl (Nat.le_of_ble_eq_true rfl) (Nat.le_of_ble_eq_true rfl) (e11 z0_0 z0_1 z2_0 c4) (fun r w' h => Af.sub [] rfl ((k11 z0_0 z0_1 z2_0 c4) r w' h))
      · refine r_iconst 17 28 rfl rfl di_m1 ?_
        exact r_iret 18 rfl rfl rfl (k12 z0_0 z0_1 z2_0 c4)
theorem e_J17_indexOf_36 {G : Gm} {κ : Nat → Nat} {φ : Nat → Option Nat} (hS : GS G κ φ) {w : Wd} {Q : Rs → Wd → Prop} {x1 : Int32} (k1 : Q (.inl (some (.int x1))) w) : Rn G mJ17_indexOf 36 [] [.int x1] w Q := by
  exact r_iret 24 rfl rfl rfl k1
theorem e_J2_indexOf_2 {G : Gm} {κ : Nat → Nat} {φ : Nat → Option Nat} (hS : GS G κ φ) {w : Wd} {Q : Rs → Wd → Prop} {a1 : Nat} {m2 : Nat} {a3 : Nat} {x4 : Int32} {x5 : Int32} {n6 : Nat} {g7 : Nat → Nat} (o1 : Lk G w a1 (.inl (nJ2, [.ref a3, .int 0, .int x4, .int x5]))) (o2 : Lk G w a3 (arB n6 g7)) {Q3 : Rs → Wd → Prop} (e3 : Ev G mJ17_indexOf [.ref a3, .int (nI m2), .int 0, .int (nI n6)] w Q3) (k3 : ∀ r w', Q3 r w' → Af G mJ2_indexOf_2 17 20 [] [] r w' Q) : Ev G mJ2_indexOf_2 [.ref a1, .int (nI m2), .int 0] w Q := by
  show Rn G mJ2_indexOf_2 0 [(0, .ref a1), (1, .int (nI m2)), (2, .int 0)] [] w Q
  refine r_aload_n 0 1 0 rfl rfl rfl ?_
  refine r_callV lkV_J2_492_J2 (C := RJ2) (TT := TJ2) (NN := 4) rfl o1 1 4 rfl rfl (by decide) [] rfl rfl (Nat.le_of_ble_eq_true rfl) (Nat.le_of_ble_eq_true rfl) (e_J2_isLatin1 hS (o1 := o1) (k2 := ?_)) (fun _ _ h => h)
  show Rn G mJ2_indexOf_2 4 [(0, .ref a1), (1, .int (nI m2)), (2, .int 0)] [.int 1] w _
  refine r_if_eq 2 7 23 rfl rfl rfl (fun c => absurd c (by decide)) (fun _ => ?_)
  refine r_aload_n 3 8 0 rfl rfl rfl ?_
  refine r_get (v := .ref a3) fl_J2_9_J2 4 11 rfl rfl o1 rfl ?_
  refine r_iload_n 5 12 1 rfl rfl rfl ?_
  refine r_iload_n 6 13 2 rfl rfl rfl ?_
  refine r_aload_n 7 14 0 rfl rfl rfl ?_
  refine r_callV lkV_J2_505_J2 (C := RJ2) (TT := TJ2) (NN := 4) rfl o1 8 17 rfl rfl (by decide) [] rfl rfl (Nat.le_of_ble_eq_true rfl) (Nat.le_of_ble_eq_true rfl) (e_J2_length hS (o1 := o1) (o2 := o2) (k3 := ?_)) (fun _ _ h => h)
  show Rn G mJ2_indexOf_2 17 [(0, .ref a1), (1, .int (nI m2)), (2, .int 0)] [.int (nI n6), .int 0, .int (nI m2), .ref a3] w _
  exact r_callS lkS_J2_637 9 20 rfl rfl (by decide) [.ref a3, .int (nI m2), .int 0, .int (nI n6)] rfl rfl (Nat.le_of_ble_eq_true rfl) (Nat.le_of_ble_eq_true rfl) e3 (fun r w' h => Af.sub [] rfl (k3 r w' h))
theorem e_J2_indexOf_2_20 {G : Gm} {κ : Nat → Nat} {φ : Nat → Option Nat} (hS : GS G κ φ) {w : Wd} {Q : Rs → Wd → Prop} {x1 : Int32} (k1 : Q (.inl (some (.int x1))) w) : Rn G mJ2_indexOf_2 20 [] [.int x1] w Q := by
  refine r_goto 10 36 rfl rfl ?_
  exact r_iret 18 rfl rfl rfl k1
theorem e_J2_indexOf {G : Gm} {κ : Nat → Nat} {φ : Nat → Option Nat} (hS : GS G κ φ) {w : Wd} {Q : Rs → Wd → Prop} {a1 : Nat} {m2 : Nat} {a3 : Nat} {x4 : Int32} {x5 : Int32} (o1 : Lk G w a1 (.inl (nJ2, [.ref a3, .int 0, .int x4, .int x5]))) {Q2 : Rs → Wd → Prop} (e2 : Ev G mJ2_indexOf_2 [.ref a1, .int (nI m2), .int 0] w Q2) (k2 : ∀ r w', Q2 r w' → Af G mJ2_indexOf 3 6 [] [] r w' Q) : Ev G mJ2_indexOf [.ref a1, .int (nI m2)] w Q := by
  show Rn G mJ2_indexOf 0 [(0, .ref a1), (1, .int (nI m2))] [] w Q
  refine r_aload_n 0 1 0 rfl rfl rfl ?_
  refine r_iload_n 1 2 1 rfl rfl rfl ?_
  refine r_iconst 2 3 rfl rfl di_0 ?_
  exact r_callV lkV_J2_633_J2 (C := RJ2) (TT := TJ2) (NN := 4) rfl o1 3 6 rfl rfl (by decide) [.int (nI m2), .int 0] rfl rfl (Nat.le_of_ble_eq_true rfl) (Nat.le_of_ble_eq_true rfl) e2 (fun r w' h => Af.sub [] rfl (k2 r w' h))
theorem e_J2_indexOf_6 {G : Gm} {κ : Nat → Nat} {φ : Nat → Option Nat} (hS : GS G κ φ) {w : Wd} {Q : Rs → Wd → Prop} {x1 : Int32} (k1 : Q (.inl (some (.int x1))) w) : Rn G mJ2_indexOf 6 [] [.int x1] w Q := by
  exact r_iret 4 rfl rfl rfl k1
theorem e_J6_add_2 {G : Gm} {κ : Nat → Nat} {φ : Nat → Option Nat} (hS : GS G κ φ) {w : Wd} {Q : Rs → Wd → Prop} {a1 : Nat} {a2 : Nat} {a3 : Nat} {m4 : Nat} {n5 : Nat} {g6 : Nat → Option Nat} {x7 : Int32} {a8 : Nat} {m9 : Nat} (o1 : w.1 a3 = some (arR "java/lang/Object" n5 g6)) (bd2 : m4 < 2 ^ 31) (bd3 : n5 < 2 ^ 31) (b4 : ¬ m4 = n5 → m4 < n5) (q5 : ¬ m4 = n5 → OkO G w (.ref a2)) (o6 : w.1 a1 = some (.inl (nJ6, [.int x7, .ref a8, .int (nI m9)]))) (k7 : ¬ m4 = n5 → Q (.inl none) (wset (wset w a3 (arR "java/lang/Object" n5 (upF g6 m4 (some a2)))) a1 (.inl (nJ6, [.int x7, .ref a8, .int (nI (m4 + 1))])))) {Q8 : Rs → Wd → Prop} (e8 : m4 = n5 → Ev G mJ6_grow [.ref a1] w Q8) (k8 : m4 = n5 → ∀ r w', Q8 r w' → Af G mJ6_add_2 7 10 [(0, .ref a1), (1, .ref a2), (3, .int (nI m4))] [] r w' Q) : Ev G mJ6_add_2 [.ref a1, .ref a2, .ref a3, .int (nI m4)] w Q := by
  show Rn G mJ6_add_2 0 [(0, .ref a1), (1, .ref a2), (2, .ref a3), (3, .int (nI m4))] [] w Q
  refine Rn.wok fun hwk => ?_
  refine r_iload_n 0 1 3 rfl rfl rfl ?_
  refine r_aload_n 1 2 2 rfl rfl rfl ?_
  refine r_alen 2 3 rfl rfl (Or.inl o1) ?_
  refine y_icmp_ne (a := m4) (b := n5) bd2 bd3 3 6 11 rfl rfl rfl (fun c1 => ?_) (fun c1 => ?_)
  · refine r_aload_n 7 12 2 rfl rfl rfl ?_
    refine r_iload_n 8 13 3 rfl rfl rfl ?_
    refine r_aload_n 9 14 1 rfl rfl rfl ?_
    refine y_aastO (i := m4) 10 15 rfl rfl o1 (q5 c1) (b4 c1) (by omega) ?_
    show Rn G mJ6_add_2 15 [(0, .ref a1), (1, .ref a2), (2, .ref a3), (3, .int (nI m4))] [] (wset w a3 (arR "java/lang/Object" n5 (upF g6 m4 (some a2)))) _
    refine r_aload_n 11 16 0 rfl rfl rfl ?_
    refine r_iload_n 12 17 3 rfl rfl rfl ?_
    refine r_iconst 13 18 rfl rfl di_1 ?_
    refine r_iadd 14 19 rfl rfl ?_
    refine x_eq (y := (nI (m4 + 1))) (nI_add _ _) ?_
    refine r_put (i := 2) fl_J6_48_J6 in_J6 q147 (ty0 := tyJ6) tyJ6_ok nmJ6 15 22 rfl rfl (wset_n o6 (Lk.ne (Or.inl o6) o1 hwk (by intro h; simp at h))) rfl rfl rfl (Nat.le_of_ble_eq_true rfl) ?_
    show Rn G mJ6_add_2 22 [(0, .ref a1), (1, .ref a2), (2, .ref a3), (3, .int (nI m4))] [] (wset (wset w a3 (arR "java/lang/Object" n5 (upF g6 m4 (some a2)))) a1 (.inl (nJ6, [.int x7, .ref a8, .int (nI (m4 + 1))]))) _
    exact r_vret 16 rfl rfl (k7 c1)
  · refine r_aload_n 4 7 0 rfl rfl rfl ?_
    exact r_callV lkV_J6_129_J6 (C := RJ6) (TT := TJ6) (NN := 3) rfl (Or.inl o6) 5 10 rfl rfl (by decide) [] rfl rfl (Nat.le_of_ble_eq_true rfl) (Nat.le_of_ble_eq_true rfl) (e8 c1) (fun r w' h => Af.sub [0, 1, 3] rfl ((k8 c1) r w' h))
theorem e_J6_add_2_10 {G : Gm} {κ : Nat → Nat} {φ : Nat → Option Nat} (hS : GS G κ φ) {w : Wd} {Q : Rs → Wd → Prop} {a1 : Nat} {a2 : Nat} {m3 : Nat} {a4 : Nat} {n5 : Nat} {g6 : Nat → Option Nat} {x7 : Int32} {a8 : Nat} {m9 : Nat} (o1 : w.1 a4 = some (arR "java/lang/Object" n5 g6)) (b2 : m3 < n5) (bd3 : n5 < 2 ^ 31) (q4 : OkO G w (.ref a2)) (o5 : w.1 a1 = some (.inl (nJ6, [.int x7, .ref a8, .int (nI m9)]))) (k6 : Q (.inl none) (wset (wset w a4 (arR "java/lang/Object" n5 (upF g6 m3 (some a2)))) a1 (.inl (nJ6, [.int x7, .ref a8, .int (nI (m3 + 1))])))) : Rn G mJ6_add_2 10 [(0, .ref a1), (1, .ref a2), (3, .int (nI m3))] [.ref a4] w Q := by
  refine Rn.wok fun hwk => ?_
  refine r_astore_n (lv' := [(2, .ref a4), (0, .ref a1), (1, .ref a2), (3, .int (nI m3))]) 6 11 rfl rfl (Nat.le_of_ble_eq_true rfl) rfl ?_
  refine r_aload_n 7 12 0 rfl rfl rfl ?_
  refine r_iload_n 8 13 3 rfl rfl rfl ?_
  refine r_aload_n 9 14 2 rfl rfl rfl ?_
  refine y_aastO (i := m3) 10 15 rfl rfl o1 q4 b2 bd3 ?_
  show Rn G mJ6_add_2 15 [(2, .ref a4), (0, .ref a1), (1, .ref a2), (3, .int (nI m3))] [] (wset w a4 (arR "java/lang/Object" n5 (upF g6 m3 (some a2)))) _
  refine r_aload_n 11 16 1 rfl rfl rfl ?_
  refine r_iload_n 12 17 3 rfl rfl rfl ?_
  refine r_iconst 13 18 rfl rfl di_1 ?_
  refine r_iadd 14 19 rfl rfl ?_
  refine x_eq (y := (nI (m3 + 1))) (nI_add _ _) ?_
  refine r_put (i := 2) fl_J6_48_J6 in_J6 q147 (ty0 := tyJ6) tyJ6_ok nmJ6 15 22 rfl rfl (wset_n o5 (Lk.ne (Or.inl o5) o1 hwk (by intro h; simp at h))) rfl rfl rfl (Nat.le_of_ble_eq_true rfl) ?_
  show Rn G mJ6_add_2 22 [(2, .ref a4), (0, .ref a1), (1, .ref a2), (3, .int (nI m3))] [] (wset (wset w a4 (arR "java/lang/Object" n5 (upF g6 m3 (some a2)))) a1 (.inl (nJ6, [.int x7, .ref a8, .int (nI (m3 + 1))]))) _
  exact r_vret 16 rfl rfl k6
theorem e_J6_add {G : Gm} {κ : Nat → Nat} {φ : Nat → Option Nat} (hS : GS G κ φ) {w : Wd} {Q : Rs → Wd → Prop} {a1 : Nat} {a2 : Nat} {x3 : Int32} {a4 : Nat} {m5 : Nat} (o1 : w.1 a1 = some (.inl (nJ6, [.int x3, .ref a4, .int (nI m5)]))) {Q2 : Rs → Wd → Prop} (e2 : Ev G mJ6_add_2 [.ref a1, .ref a2, .ref a4, .int (nI m5)] (wset w a1 (.inl (nJ6, [.int (x3 + (1 : Int32)), .ref a4, .int (nI m5)]))) Q2) (k2 : ∀ r w', Q2 r w' → Af G mJ6_add 20 23 [] [] r w' Q) : Ev G mJ6_add [.ref a1, .ref a2] w Q := by
  show Rn G mJ6_add 0 [(0, .ref a1), (1, .ref a2)] [] w Q
  refine r_aload_n 0 1 0 rfl rfl rfl ?_
  refine r_dup 1 2 rfl rfl rfl ?_
  refine r_get (v := .int x3) fl_J6_63_J6 2 5 rfl rfl (Or.inl o1) rfl ?_
  refine r_iconst 3 6 rfl rfl di_1 ?_
  refine r_iadd 4 7 rfl rfl ?_
  refine r_put (i := 0) fl_J6_63_J6 in_J6 q147 (ty0 := tyJ6) tyJ6_ok nmJ6 5 10 rfl rfl o1 rfl rfl rfl (Nat.le_of_ble_eq_true rfl) ?_
  show Rn G mJ6_add 10 [(0, .ref a1), (1, .ref a2)] [] (wset w a1 (.inl (nJ6, [.int (x3 + (1 : Int32)), .ref a4, .int (nI m5)]))) _
  refine r_aload_n 6 11 0 rfl rfl rfl ?_
  refine r_aload_n 7 12 1 rfl rfl rfl ?_
  refine r_aload_n 8 13 0 rfl rfl rfl ?_
  refine r_get (v := .ref a4) fl_J6_9_J6 9 16 rfl rfl (Or.inl wset_s) rfl ?_
  refine r_aload_n 10 17 0 rfl rfl rfl ?_
  refine r_get (v := .int (nI m5)) fl_J6_48_J6 11 20 rfl rfl (Or.inl wset_s) rfl ?_
  exact r_callV lkV_J6_131_J6 (C := RJ6) (TT := TJ6) (NN := 3) rfl (Or.inl wset_s) 12 23 rfl rfl (by decide) [.ref a2, .ref a4, .int (nI m5)] rfl rfl (Nat.le_of_ble_eq_true rfl) (Nat.le_of_ble_eq_true rfl) e2 (fun r w' h => Af.sub [] rfl (k2 r w' h))
theorem e_J6_add_23 {G : Gm} {κ : Nat → Nat} {φ : Nat → Option Nat} (hS : GS G κ φ) {w : Wd} {Q : Rs → Wd → Prop} (k1 : Q (.inl (some (.int 1))) w) : Rn G mJ6_add 23 [] [] w Q := by
  refine r_iconst 13 24 rfl rfl di_1 ?_
  exact r_iret 14 rfl rfl (by decide) k1
