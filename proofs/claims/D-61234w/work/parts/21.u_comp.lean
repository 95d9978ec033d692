set_option maxRecDepth 100000
theorem db_12 : (Int8.ofInt 12).toInt32 = 12 := by decide
theorem db_20 : (Int8.ofInt 20).toInt32 = 20 := by decide
theorem db_35 : (Int8.ofInt 35).toInt32 = 35 := by decide
theorem db_36 : (Int8.ofInt 36).toInt32 = 36 := by decide
theorem db_39 : (Int8.ofInt 39).toInt32 = 39 := by decide
theorem db_40 : (Int8.ofInt 40).toInt32 = 40 := by decide
theorem db_41 : (Int8.ofInt 41).toInt32 = 41 := by decide
theorem db_44 : (Int8.ofInt 44).toInt32 = 44 := by decide
theorem db_46 : (Int8.ofInt 46).toInt32 = 46 := by decide
theorem db_59 : (Int8.ofInt 59).toInt32 = 59 := by decide
theorem db_61 : (Int8.ofInt 61).toInt32 = 61 := by decide
theorem db_63 : (Int8.ofInt 63).toInt32 = 63 := by decide
theorem di_3 : Int32.ofInt 3 = 3 := by decide
theorem fl_X3_160_X7 : FL RX3 160 nX7 2 RX7 TX7 3 := ⟨rfl, by decide, _, q1200, Or.inl rfl⟩
theorem fl_X3_186_X4 : FL RX3 186 nX4 0 RX4 TX4 3 := ⟨rfl, by decide, _, q641, Or.inl rfl⟩
theorem lkV_X3_62_X3 : LkV RX3 62 RX3 mX3_take 1 := ⟨okX3_take, q735, q736, q737, ⟨by decide, by decide⟩, by decide +kernel⟩
theorem lkV_X3_66_X3 : LkV RX3 66 RX3 mX3_number 2 := ⟨okX3_number, q928, q929, q930, ⟨by decide, by decide⟩, by decide +kernel⟩
theorem lkV_X3_96_X3 : LkV RX3 96 RX3 mX3_line 0 := ⟨okX3_line, q1266, q1267, q1268, ⟨by decide, by decide⟩, by decide +kernel⟩
theorem lkV_X3_124_X3 : LkV RX3 124 RX3 mX3_text 0 := ⟨okX3_text, q1212, q1214, qs11, ⟨by decide, by decide⟩, by decide +kernel⟩
theorem lkV_X3_134_X3 : LkV RX3 134 RX3 mX3_list 0 := ⟨okX3_list, q1276, q1278, qs12, ⟨by decide, by decide⟩, by decide +kernel⟩
theorem lkS_X3_130 : LkS RX3 130 mX8_of 2 := ⟨okX8_of, q1270, q1271, ⟨by decide, by decide⟩, by decide +kernel⟩
theorem lkIN_X3_87 : LkIN RX3 87 "ExchangeText" mX8_init 3 := ⟨okX8_init, q1240, q1241, rfl, rfl, rfl, ⟨by decide, by decide⟩, by decide +kernel⟩
theorem lkV_X3_140_X3 : LkV RX3 140 RX3 mX3_name 0 := ⟨okX3_name, q295, q296, q297, ⟨by decide, by decide⟩, by decide +kernel⟩
theorem lkI_X3_70 : LkI RX3 70 mJ1_init 0 := ⟨okJ1_init, q1217, q116, rfl, rfl, rfl, ⟨by decide, by decide⟩, by decide +kernel⟩
theorem lkV_X3_83_J1 : LkV RX3 83 RJ1 mJ1_toString 0 := ⟨okJ1_toString, q1239, q547, q548, ⟨by decide, by decide⟩, by decide +kernel⟩
theorem lkV_X3_71_J1 : LkV RX3 71 RJ1 mJ1_append_3 1 := ⟨okJ1_append_3, q1218, q1219, q1220, ⟨by decide, by decide⟩, by decide +kernel⟩
theorem lkI_X3_92 : LkI RX3 92 mJ6_init 0 := ⟨okJ6_init, q1281, q149, rfl, rfl, rfl, ⟨by decide, by decide⟩, by decide +kernel⟩
theorem lkV_X3_93_J6 : LkV RX3 93 RJ6 mJ6_size 0 := ⟨okJ6_size, q653, q654, q655, ⟨by decide, by decide⟩, by decide +kernel⟩
theorem lkV_X3_109_J6 : LkV RX3 109 RJ6 mJ6_get 1 := ⟨okJ6_get, q1282, q1283, q1284, ⟨by decide, by decide⟩, by decide +kernel⟩
theorem lkV_X3_113_J20 : LkV RX3 113 RJ20 mJ20_intValue 0 := ⟨okJ20_intValue, q1295, q1296, q1297, ⟨by decide, by decide⟩, by decide +kernel⟩
theorem lkS_X3_99 : LkS RX3 99 mJ20_valueOf 1 := ⟨okJ20_valueOf, q935, q936, ⟨by decide, by decide⟩, by decide +kernel⟩
theorem lkV_X3_105_J6 : LkV RX3 105 RJ6 mJ6_add 1 := ⟨okJ6_add, q838, q839, q840, ⟨by decide, by decide⟩, by decide +kernel⟩
theorem lkV_X3_149_J8 : LkV RX3 149 RJ8 mJ8_size 0 := ⟨okJ8_size, q924, q925, q926, ⟨by decide, by decide⟩, by decide +kernel⟩
theorem lkV_X3_152_J8 : LkV RX3 152 RJ8 mJ8_containsKey 1 := ⟨okJ8_containsKey, q955, q956, q957, ⟨by decide, by decide⟩, by decide +kernel⟩
theorem lkI_X3_157 : LkI RX3 157 mX7_init 2 := ⟨okX7_init, q1188, q1189, rfl, rfl, rfl, ⟨by decide, by decide⟩, by decide +kernel⟩
theorem lkV_X3_164_X3 : LkV RX3 164 RX3 mX3_argument 0 := ⟨okX3_argument, q1208, q1210, qs10, ⟨by decide, by decide⟩, by decide +kernel⟩
theorem lkI_X3_169 : LkI RX3 169 mX4_init 1 := ⟨okX4_init, q609, q610, rfl, rfl, rfl, ⟨by decide, by decide⟩, by decide +kernel⟩
theorem lkV_X3_172_J6 : LkV RX3 172 RJ6 mJ6_iterator 0 := ⟨okJ6_iterator, q657, q658, q659, ⟨by decide, by decide⟩, by decide +kernel⟩
theorem lkF_X3_176_J22 : LkF RX3 176 RJ22 ⟨"java/util/Iterator", "hasNext", "()Z"⟩ mJ22_hasNext 0 := ⟨okJ22_hasNext, q681, q685, q687, q683, q682, q688, q686, q684, ⟨by decide, by decide⟩, by decide +kernel⟩
theorem lkF_X3_182_J22 : LkF RX3 182 RJ22 ⟨"java/util/Iterator", "next", "()Ljava/lang/Object;"⟩ mJ22_next 0 := ⟨okJ22_next, q697, q700, q702, q699, q698, q703, q701, q684, ⟨by decide, by decide⟩, by decide +kernel⟩
theorem lkV_X3_189_J2 : LkV RX3 189 RJ2 mJ2_equals 1 := ⟨okJ2_equals, q727, q728, q729, ⟨by decide, by decide⟩, by decide +kernel⟩
theorem lkV_X3_194_X3 : LkV RX3 194 RX3 mX3_isOver 0 := ⟨okX3_isOver, q743, q241, q242, ⟨by decide, by decide⟩, by decide +kernel⟩
theorem lkV_X3_199_J2 : LkV RX3 199 RJ2 mJ2_indexOf 1 := ⟨okJ2_indexOf, q745, q746, q747, ⟨by decide, by decide⟩, by decide +kernel⟩
theorem lkV_X3_203_X4 : LkV RX3 203 RX4 mX4_size 0 := ⟨okX4_size, q795, q796, q797, ⟨by decide, by decide⟩, by decide +kernel⟩
theorem lkS_X3_216 : LkS RX3 216 mX6_values 0 := ⟨okX6_values, q827, q828, ⟨by decide, by decide⟩, by decide +kernel⟩
theorem lkV_X3_208_J21 : LkV RX3 208 RJ21 mJ21_set 1 := ⟨okJ21_set, q800, q801, q802, ⟨by decide, by decide⟩, by decide +kernel⟩
theorem sw_X3_argument_4 {G : Gm} {lv : List (Nat × Value)} {st : List Value} {w : Wd} {Q : Rs → Wd → Prop} {x : Int32} (u0 : ¬ x = 35) (u1 : ¬ x = 36) (u2 : ¬ x = 39) (u3 : ¬ x = 40) (u4 : ¬ x = 46) (kk : Rn G mX3_argument 143 lv st w Q) : Rn G mX3_argument 4 lv (.int x :: st) w Q := by
  have g0 : x.toInt ≠ 35 := fun h => u0 (Int32.toInt_inj.mp (h.trans (by decide)))
  have g1 : x.toInt ≠ 36 := fun h => u1 (Int32.toInt_inj.mp (h.trans (by decide)))
  have g2 : x.toInt ≠ 39 := fun h => u2 (Int32.toInt_inj.mp (h.trans (by decide)))
  have g3 : x.toInt ≠ 40 := fun h => u3 (Int32.toInt_inj.mp (h.trans (by decide)))
  have g4 : x.toInt ≠ 46 := fun h => u4 (Int32.toInt_inj.mp (h.trans (by decide)))
  by_cases hlo : x.toInt < 35 ∨ 46 < x.toInt
  · exact r_tabOut 2 143 rfl rfl hlo kk
  · have h1 : ¬ x.toInt < 35 := fun h => hlo (Or.inl h)
    have h2 : ¬ 46 < x.toInt := fun h => hlo (Or.inr h)
    have hx : ∃ j : Nat, j < 12 ∧ (x.toInt - 35).toNat = j ∧ x.toInt = 35 + j := ⟨(x.toInt - 35).toNat, by omega, rfl, by omega⟩
    obtain ⟨j, hj, e1, e2⟩ := hx
    refine r_tabIn (off := 139) 2 143 rfl h1 h2 ?_ rfl kk
    rw [e1]
    have hj2 : j = 2 ∨ j = 3 ∨ j = 6 ∨ j = 7 ∨ j = 8 ∨ j = 9 ∨ j = 10 := by omega
    rcases hj2 with rfl | rfl | rfl | rfl | rfl | rfl | rfl <;> rfl
theorem e_X3_line {G : Gm} {κ : Nat → Nat} {φ : Nat → Option Nat} (hS : GS G κ φ) {w : Wd} {Q : Rs → Wd → Prop} {a1 : Nat} {a2 : Nat} {m3 : Nat} (o1 : Lk G w a1 (.inl (nX3, [.ref a2, .int (nI m3)]))) {Q2 : Rs → Wd → Prop} (e2 : Ev G mX3_take [.ref a1, .int 35] w Q2) (k2 : ∀ r w', Q2 r w' → Af G mX3_line 3 6 [(0, .ref a1)] [] r w' Q) : Ev G mX3_line [.ref a1] w Q := by
  show Rn G mX3_line 0 [(0, .ref a1)] [] w Q
  refine r_aload_n 0 1 0 rfl rfl rfl ?_
  refine r_bipush 1 3 rfl rfl db_35 ?_
  exact r_callV lkV_X3_62_X3 (C := RX3) (TT := TX3) (NN := 2) rfl o1 2 6 rfl rfl (by decide) [.int 35] rfl rfl (Nat.le_of_ble_eq_true rfl) (Nat.le_of_ble_eq_true rfl) e2 (fun r w' h => Af.sub [0] rfl (k2 r w' h))
theorem e_X3_line_6 {G : Gm} {κ : Nat → Nat} {φ : Nat → Option Nat} (hS : GS G κ φ) {w : Wd} {Q : Rs → Wd → Prop} {a1 : Nat} {a2 : Nat} {m3 : Nat} (o1 : Lk G w a1 (.inl (nX3, [.ref a2, .int (nI m3)]))) {Q2 : Rs → Wd → Prop} (e2 : Ev G mX3_skip [.ref a1] w Q2) (k2 : ∀ r w', Q2 r w' → Af G mX3_line 7 10 [(0, .ref a1)] [] r w' Q) : Rn G mX3_line 6 [(0, .ref a1)] [] w Q := by
  refine r_aload_n 3 7 0 rfl rfl rfl ?_
  exact r_callV lkV_X3_29_X3 (C := RX3) (TT := TX3) (NN := 2) rfl o1 4 10 rfl rfl (by decide) [] rfl rfl (Nat.le_of_ble_eq_true rfl) (Nat.le_of_ble_eq_true rfl) e2 (fun r w' h => Af.sub [0] rfl (k2 r w' h))
theorem e_X3_line_10 {G : Gm} {κ : Nat → Nat} {φ : Nat → Option Nat} (hS : GS G κ φ) {w : Wd} {Q : Rs → Wd → Prop} {a1 : Nat} {a2 : Nat} {m3 : Nat} (o1 : Lk G w a1 (.inl (nX3, [.ref a2, .int (nI m3)]))) {Q2 : Rs → Wd → Prop} (e2 : Ev G mX3_number [.ref a1, .int 3, .int 0] w Q2) (k2 : ∀ r w', Q2 r w' → Af G mX3_line 18 21 [(0, .ref a1), (1, .int (nI m3))] [] r w' Q) : Rn G mX3_line 10 [(0, .ref a1)] [] w Q := by
  refine r_aload_n 5 11 0 rfl rfl rfl ?_
  refine r_get (v := .int (nI m3)) fl_X3_15_X3 6 14 rfl rfl o1 rfl ?_
  refine r_istore_n (lv' := [(1, .int (nI m3)), (0, .ref a1)]) 7 15 rfl rfl (Nat.le_of_ble_eq_true rfl) rfl ?_
  refine r_aload_n 8 16 1 rfl rfl rfl ?_
  refine r_iconst 9 17 rfl rfl di_3 ?_
  refine r_iconst 10 18 rfl rfl di_0 ?_
  exact r_callV lkV_X3_66_X3 (C := RX3) (TT := TX3) (NN := 2) rfl o1 11 21 rfl rfl (by decide) [.int 3, .int 0] rfl rfl (Nat.le_of_ble_eq_true rfl) (Nat.le_of_ble_eq_true rfl) e2 (fun r w' h => Af.sub [1, 0] rfl (k2 r w' h))
theorem e_X3_line_21 {G : Gm} {κ : Nat → Nat} {φ : Nat → Option Nat} (hS : GS G κ φ) {w : Wd} {Q : Rs → Wd → Prop} {a1 : Nat} {m2 : Nat} {x3 : Int32} {a4 : Nat} {m5 : Nat} (o1 : Lk G w a1 (.inl (nX3, [.ref a4, .int (nI m5)]))) {Q2 : Rs → Wd → Prop} (e2 : x3 ≤ 0 → Ev G mX3_want_2 [.ref a1, .int 0, .int (nI m2)] w Q2) (k2 : x3 ≤ 0 → ∀ r w', Q2 r w' → Af G mX3_line 33 36 [(2, .int x3)] [] r w' Q) {Q3 : Rs → Wd → Prop} (e3 : ¬ x3 ≤ 0 → Ev G mX3_want_2 [.ref a1, .int 1, .int (nI m2)] w Q3) (k3 : ¬ x3 ≤ 0 → ∀ r w', Q3 r w' → Af G mX3_line 33 36 [(2, .int x3)] [] r w' Q) : Rn G mX3_line 21 [(0, .ref a1), (1, .int (nI m2))] [.int x3] w Q := by
  refine r_istore_n (lv' := [(2, .int x3), (0, .ref a1), (1, .int (nI m2))]) 12 22 rfl rfl (Nat.le_of_ble_eq_true rfl) rfl ?_
  refine r_aload_n 13 23 1 rfl rfl rfl ?_
  refine r_iload_n 14 24 0 rfl rfl rfl ?_
  refine r_if_le 15 27 31 rfl rfl rfl (fun c1 => ?_) (fun c1 => ?_)
  · refine r_iconst 18 32 rfl rfl di_0 ?_
    refine r_iload_n 19 33 2 rfl rfl rfl ?_
    exact r_callV lkV_X3_41_X3 (C := RX3) (TT := TX3) (NN := 2) rfl o1 20 36 rfl rfl (by decide) [.int 0, .int (nI m2)] rfl rfl (Nat.le_of_ble_eq_true rfl) (Nat.le_of_ble_eq_true rfl) (e2 c1) (fun r w' h => Af.sub [0] rfl ((k2 c1) r w' h))
  · refine r_iconst 16 28 rfl rfl di_1 ?_
    refine r_goto 17 32 rfl rfl ?_
    refine r_iload_n 19 33 2 rfl rfl rfl ?_
    exact r_callV lkV_X3_41_X3 (C := RX3) (TT := TX3) (NN := 2) rfl o1 20 36 rfl rfl (by decide) [.int 1, .int (nI m2)] rfl rfl (Nat.le_of_ble_eq_true rfl) (Nat.le_of_ble_eq_true rfl) (e3 c1) (fun r w' h => Af.sub [0] rfl ((k3 c1) r w' h))
theorem e_X3_line_36 {G : Gm} {κ : Nat → Nat} {φ : Nat → Option Nat} (hS : GS G κ φ) {w : Wd} {Q : Rs → Wd → Prop} {x1 : Int32} (k1 : Q (.inl (some (.int x1))) w) : Rn G mX3_line 36 [(2, .int x1)] [] w Q := by
  refine r_iload_n 21 37 0 rfl rfl rfl ?_
  exact r_iret 22 rfl rfl rfl k1
theorem e_X3_argument {G : Gm} {κ : Nat → Nat} {φ : Nat → Option Nat} (hS : GS G κ φ) {w : Wd} {Q : Rs → Wd → Prop} {a1 : Nat} {a2 : Nat} {m3 : Nat} (o1 : Lk G w a1 (.inl (nX3, [.ref a2, .int (nI m3)]))) {Q2 : Rs → Wd → Prop} (e2 : Ev G mX3_here [.ref a1] w Q2) (k2 : ∀ r w', Q2 r w' → Af G mX3_argument 1 4 [(0, .ref a1)] [] r w' Q) : Ev G mX3_argument [.ref a1] w Q := by
  show Rn G mX3_argument 0 [(0, .ref a1)] [] w Q
  refine r_aload_n 0 1 0 rfl rfl rfl ?_
  exact r_callV lkV_X3_32_X3 (C := RX3) (TT := TX3) (NN := 2) rfl o1 1 4 rfl rfl (by decide) [] rfl rfl (Nat.le_of_ble_eq_true rfl) (Nat.le_of_ble_eq_true rfl) e2 (fun r w' h => Af.sub [0] rfl (k2 r w' h))
theorem e_X3_argument_4 {G : Gm} {κ : Nat → Nat} {φ : Nat → Option Nat} (hS : GS G κ φ) {w : Wd} {Q : Rs → Wd → Prop} {a1 : Nat} {m2 : Nat} {a3 : Nat} {m4 : Nat} (bd1 : m2 < 2 ^ 31) (o2 : Lk G w a1 (.inl (nX3, [.ref a3, .int (nI m4)]))) {Q3 : Rs → Wd → Prop} (e3 : m2 = 35 → Ev G mX3_line [.ref a1] w Q3) (k3 : m2 = 35 → ∀ r w', Q3 r w' → Af G mX3_argument 77 80 [] [.ref (κ 12)] r w' Q) {Q4 : Rs → Wd → Prop} (e4 : ¬ m2 = 35 → m2 = 36 → Ev G mX3_take [.ref a1, .int 36] w Q4) (k4 : ¬ m2 = 35 → m2 = 36 → ∀ r w', Q4 r w' → Af G mX3_argument 92 95 [] [] r w' Q) {Q5 : Rs → Wd → Prop} (e5 : ¬ m2 = 35 → ¬ m2 = 36 → m2 = 39 → Ev G mX3_text [.ref a1] w Q5) (k5 : ¬ m2 = 35 → ¬ m2 = 36 → m2 = 39 → ∀ r w', Q5 r w' → Af G mX3_argument 69 72 [] [] r w' Q) {Q6 : Rs → Wd → Prop} (e6 : ¬ m2 = 35 → ¬ m2 = 36 → ¬ m2 = 39 → m2 = 40 → Ev G mX3_list [.ref a1] w Q6) (k6 : ¬ m2 = 35 → ¬ m2 = 36 → ¬ m2 = 39 → m2 = 40 → ∀ r w', Q6 r w' → Af G mX3_argument 85 88 [] [] r w' Q) {Q7 : Rs → Wd → Prop} (e7 : ¬ m2 = 35 → ¬ m2 = 36 → ¬ m2 = 39 → ¬ m2 = 40 → m2 = 46 → Ev G mX3_take [.ref a1, .int 46] w Q7) (k7 : ¬ m2 = 35 → ¬ m2 = 36 → ¬ m2 = 39 → ¬ m2 = 40 → m2 = 46 → ∀ r w', Q7 r w' → Af G mX3_argument 114 117 [(0, .ref a1)] [] r w' Q) {Q8 : Rs → Wd → Prop} (e8 : ¬ m2 = 35 → ¬ m2 = 36 → ¬ m2 = 39 → ¬ m2 = 40 → ¬ m2 = 46 → Ev G mX3_number [.ref a1, .int 9, .int 1] w Q8) (k8 : ¬ m2 = 35 → ¬ m2 = 36 → ¬ m2 = 39 → ¬ m2 = 40 → ¬ m2 = 46 → ∀ r w', Q8 r w' → Af G mX3_argument 150 153 [] [.ref (κ 10)] r w' Q) : Rn G mX3_argument 4 [(0, .ref a1)] [.int (nI m2)] w Q := by
  by_cases c1 : m2 = 35
  · refine r_tabIn (off := 69) 2 73 rfl (by rw [c1]; decide) (by rw [c1]; decide) (by rw [c1]; decide) rfl ?_
    refine r_gets (v := .ref (κ 12)) (hS 12).1 q1264 6 76 rfl rfl ?_
    refine r_aload_n 7 77 0 rfl rfl rfl ?_
    exact r_callV lkV_X3_96_X3 (C := RX3) (TT := TX3) (NN := 2) rfl o2 8 80 rfl rfl (by decide) [] rfl rfl (Nat.le_of_ble_eq_true rfl) (Nat.le_of_ble_eq_true rfl) (e3 c1) (fun r w' h => Af.sub [] rfl ((k3 c1) r w' h))
  by_cases c2 : m2 = 36
  · refine r_tabIn (off := 85) 2 89 rfl (by rw [c2]; decide) (by rw [c2]; decide) (by rw [c2]; decide) rfl ?_
    refine r_aload_n 14 90 0 rfl rfl rfl ?_
    refine r_bipush 15 92 rfl rfl db_36 ?_
    exact r_callV lkV_X3_62_X3 (C := RX3) (TT := TX3) (NN := 2) rfl o2 16 95 rfl rfl (by decide) [.int 36] rfl rfl (Nat.le_of_ble_eq_true rfl) (Nat.le_of_ble_eq_true rfl) (e4 c1 c2) (fun r w' h => Af.sub [] rfl ((k4 c1 c2) r w' h))
  by_cases c3 : m2 = 39
  · refine r_tabIn (off := 64) 2 68 rfl (by rw [c3]; decide) (by rw [c3]; decide) (by rw [c3]; decide) rfl ?_
    refine r_aload_n 3 69 0 rfl rfl rfl ?_
    exact r_callV lkV_X3_124_X3 (C := RX3) (TT := TX3) (NN := 2) rfl o2 4 72 rfl rfl (by decide) [] rfl rfl (Nat.le_of_ble_eq_true rfl) (Nat.le_of_ble_eq_true rfl) (e5 c1 c2 c3) (fun r w' h => Af.sub [] rfl ((k5 c1 c2 c3) r w' h))
  by_cases c4 : m2 = 40
  · refine r_tabIn (off := 80) 2 84 rfl (by rw [c4]; decide) (by rw [c4]; decide) (by rw [c4]; decide) rfl ?_
    refine r_aload_n 11 85 0 rfl rfl rfl ?_
    exact r_callV lkV_X3_134_X3 (C := RX3) (TT := TX3) (NN := 2) rfl o2 12 88 rfl rfl (by decide) [] rfl rfl (Nat.le_of_ble_eq_true rfl) (Nat.le_of_ble_eq_true rfl) (e6 c1 c2 c3 c4) (fun r w' h => Af.sub [] rfl ((k6 c1 c2 c3 c4) r w' h))
  by_cases c5 : m2 = 46
  · refine r_tabIn (off := 107) 2 111 rfl (by rw [c5]; decide) (by rw [c5]; decide) (by rw [c5]; decide) rfl ?_
    refine r_aload_n 25 112 0 rfl rfl rfl ?_
    refine r_bipush 26 114 rfl rfl db_46 ?_
    exact r_callV lkV_X3_62_X3 (C := RX3) (TT := TX3) (NN := 2) rfl o2 27 117 rfl rfl (by decide) [.int 46] rfl rfl (Nat.le_of_ble_eq_true rfl) (Nat.le_of_ble_eq_true rfl) (e7 c1 c2 c3 c4 c5) (fun r w' h => Af.sub [0] rfl ((k7 c1 c2 c3 c4 c5) r w' h))
  refine sw_X3_argument_4 (fun h => c1 ((nI_eq bd1 (by decide)).mp h)) (fun h => c2 ((nI_eq bd1 (by decide)).mp h)) (fun h => c3 ((nI_eq bd1 (by decide)).mp h)) (fun h => c4 ((nI_eq bd1 (by decide)).mp h)) (fun h => c5 ((nI_eq bd1 (by decide)).mp h)) ?_
  refine r_gets (v := .ref (κ 10)) (hS 10).1 q1308 42 146 rfl rfl ?_
  refine r_aload_n 43 147 0 rfl rfl rfl ?_
  refine r_bipush 44 149 rfl rfl db_9 ?_
  refine r_iconst 45 150 rfl rfl di_1 ?_
  exact r_callV lkV_X3_66_X3 (C := RX3) (TT := TX3) (NN := 2) rfl o2 46 153 rfl rfl (by decide) [.int 9, .int 1] rfl rfl (Nat.le_of_ble_eq_true rfl) (Nat.le_of_ble_eq_true rfl) (e8 c1 c2 c3 c4 c5) (fun r w' h => Af.sub [] rfl ((k8 c1 c2 c3 c4 c5) r w' h))
theorem e_X3_argument_80 {G : Gm} {κ : Nat → Nat} {φ : Nat → Option Nat} (hS : GS G κ φ) {w : Wd} {Q : Rs → Wd → Prop} {x1 : Int32} (hg : 28 ≤ w.2.2) (k1 : Q (.inl (some (.ref w.2.1))) (wset (wnew (wnew w (.inl (nX8, [.null, .null, .null])) 3) (arI .int 1 (upF (fun _ => 0) 0 x1)) 1) w.2.1 (.inl (nX8, [.ref (κ 12), .ref (κ 20), .ref (w.2.1 + 1)])))) : Rn G mX3_argument 80 [] [.int x1, .ref (κ 12)] w Q := by
  refine r_callS lkS_X3_130 9 83 rfl rfl (by decide) [.ref (κ 12), .int x1] rfl rfl (Nat.le_of_ble_eq_true rfl) (Nat.le_of_ble_eq_true rfl) (e_X8_of hS (hg := by show 28 ≤ w.2.2; omega) (k1 := ?_)) (fun _ _ h => h)
  show Rn G mX3_argument 83 [] [.ref w.2.1] (wset (wnew (wnew w (.inl (nX8, [.null, .null, .null])) 3) (arI .int 1 (upF (fun _ => 0) 0 x1)) 1) w.2.1 (.inl (nX8, [.ref (κ 12), .ref (κ 20), .ref (w.2.1 + 1)]))) _
  exact r_aret 10 rfl rfl (Or.inl ⟨_, rfl⟩) (Or.inr ⟨_, rfl⟩) k1
theorem e_X3_argument_95 {G : Gm} {κ : Nat → Nat} {φ : Nat → Option Nat} (hS : GS G κ φ) {w : Wd} {Q : Rs → Wd → Prop} (hg : 27 ≤ w.2.2) (k1 : Q (.inl (some (.ref w.2.1))) (wset (wnew (wnew w (.inl (nX8, [.null, .null, .null])) 3) (arI .int 0 (fun _ => 0)) 0) w.2.1 (.inl (nX8, [.ref (κ 16), .ref (κ 28), .ref (w.2.1 + 1)])))) : Rn G mX3_argument 95 [] [] w Q := by
  refine r_new (fs := [.null, .null, .null]) (ty := tyX8) (T := TX8) (C := RX8) (N := 3) (ci := nX8) (n := 3) 17 98 rfl rfl rfl in_X8 tyX8_ok q1235 q1236 q99 rfl (by decide) (by show 12 + 3 ≤ w.2.2; omega) ?_
  show Rn G mX3_argument 98 [] [.ref w.2.1] (wnew w (.inl (nX8, [.null, .null, .null])) 3) _
  refine r_dup 18 99 rfl rfl rfl ?_
  refine r_gets (v := .ref (κ 16)) (hS 16).1 q1304 19 102 rfl rfl ?_
  refine r_ldcS (tx := "") (a := κ 28) (hS 28).1 20 104 rfl rfl ?_
  refine r_iconst 21 105 rfl rfl di_0 ?_
  refine y_newI (n := 0) 22 107 rfl rfl (by decide) (by show 12 + 0 ≤ w.2.2 - (12 + 3); omega) ?_
  show Rn G mX3_argument 107 [] [.ref (w.2.1 + 1), .ref (κ 28), .ref (κ 16), .ref w.2.1, .ref w.2.1] (wnew (wnew w (.inl (nX8, [.null, .null, .null])) 3) (arI .int 0 (fun _ => 0)) 0) _
  refine r_callIN lkIN_X3_87 23 110 rfl rfl (by decide) [.ref (κ 16), .ref (κ 28), .ref (w.2.1 + 1)] rfl rfl (Nat.le_of_ble_eq_true rfl) (Nat.le_of_ble_eq_true rfl) (e_X8_init hS (o1 := (wnew_n wnew_s (by show w.2.1 < (w.2.1 + 1); omega))) (k2 := ?_)) (fun _ _ h => h)
  show Rn G mX3_argument 110 [] [.ref w.2.1] (wset (wnew (wnew w (.inl (nX8, [.null, .null, .null])) 3) (arI .int 0 (fun _ => 0)) 0) w.2.1 (.inl (nX8, [.ref (κ 16), .ref (κ 28), .ref (w.2.1 + 1)]))) _
  exact r_aret 24 rfl rfl (Or.inl ⟨_, rfl⟩) (Or.inr ⟨_, rfl⟩) k1
theorem e_X3_argument_72 {G : Gm} {κ : Nat → Nat} {φ : Nat → Option Nat} (hS : GS G κ φ) {w : Wd} {Q : Rs → Wd → Prop} {a1 : Nat} (k1 : Q (.inl (some (.ref a1))) w) : Rn G mX3_argument 72 [] [.ref a1] w Q := by
  exact r_aret 5 rfl rfl (Or.inl ⟨_, rfl⟩) (Or.inr ⟨_, rfl⟩) k1
theorem e_X3_argument_88 {G : Gm} {κ : Nat → Nat} {φ : Nat → Option Nat} (hS : GS G κ φ) {w : Wd} {Q : Rs → Wd → Prop} {a1 : Nat} (k1 : Q (.inl (some (.ref a1))) w) : Rn G mX3_argument 88 [] [.ref a1] w Q := by
  exact r_aret 13 rfl rfl (Or.inl ⟨_, rfl⟩) (Or.inr ⟨_, rfl⟩) k1
theorem e_X3_argument_117 {G : Gm} {κ : Nat → Nat} {φ : Nat → Option Nat} (hS : GS G κ φ) {w : Wd} {Q : Rs → Wd → Prop} {a1 : Nat} {a2 : Nat} {m3 : Nat} (o1 : Lk G w a1 (.inl (nX3, [.ref a2, .int (nI m3)]))) {Q2 : Rs → Wd → Prop} (e2 : Ev G mX3_name [.ref a1] w Q2) (k2 : ∀ r w', Q2 r w' → Af G mX3_argument 118 121 [(0, .ref a1)] [] r w' Q) : Rn G mX3_argument 117 [(0, .ref a1)] [] w Q := by
  refine r_aload_n 28 118 0 rfl rfl rfl ?_
  exact r_callV lkV_X3_140_X3 (C := RX3) (TT := TX3) (NN := 2) rfl o1 29 121 rfl rfl (by decide) [] rfl rfl (Nat.le_of_ble_eq_true rfl) (Nat.le_of_ble_eq_true rfl) e2 (fun r w' h => Af.sub [0] rfl (k2 r w' h))
theorem e_X3_argument_153 {G : Gm} {κ : Nat → Nat} {φ : Nat → Option Nat} (hS : GS G κ φ) {w : Wd} {Q : Rs → Wd → Prop} {x1 : Int32} (hg : 28 ≤ w.2.2) (k1 : Q (.inl (some (.ref w.2.1))) (wset (wnew (wnew w (.inl (nX8, [.null, .null, .null])) 3) (arI .int 1 (upF (fun _ => 0) 0 x1)) 1) w.2.1 (.inl (nX8, [.ref (κ 10), .ref (κ 20), .ref (w.2.1 + 1)])))) : Rn G mX3_argument 153 [] [.int x1, .ref (κ 10)] w Q := by
  refine r_callS lkS_X3_130 47 156 rfl rfl (by decide) [.ref (κ 10), .int x1] rfl rfl (Nat.le_of_ble_eq_true rfl) (Nat.le_of_ble_eq_true rfl) (e_X8_of hS (hg := by show 28 ≤ w.2.2; omega) (k1 := ?_)) (fun _ _ h => h)
  show Rn G mX3_argument 156 [] [.ref w.2.1] (wset (wnew (wnew w (.inl (nX8, [.null, .null, .null])) 3) (arI .int 1 (upF (fun _ => 0) 0 x1)) 1) w.2.1 (.inl (nX8, [.ref (κ 10), .ref (κ 20), .ref (w.2.1 + 1)]))) _
  exact r_aret 48 rfl rfl (Or.inl ⟨_, rfl⟩) (Or.inr ⟨_, rfl⟩) k1
theorem e_X3_argument_121 {G : Gm} {κ : Nat → Nat} {φ : Nat → Option Nat} (hS : GS G κ φ) {w : Wd} {Q : Rs → Wd → Prop} {a1 : Nat} {a2 : Nat} {a3 : Nat} {m4 : Nat} (o1 : Lk G w a1 (.inl (nX3, [.ref a3, .int (nI m4)]))) {Q2 : Rs → Wd → Prop} (e2 : Ev G mX3_take [.ref a1, .int 46] w Q2) (k2 : ∀ r w', Q2 r w' → Af G mX3_argument 125 128 [(1, .ref a2)] [] r w' Q) : Rn G mX3_argument 121 [(0, .ref a1)] [.ref a2] w Q := by
  refine r_astore_n (lv' := [(1, .ref a2), (0, .ref a1)]) 30 122 rfl rfl (Nat.le_of_ble_eq_true rfl) rfl ?_
  refine r_aload_n 31 123 1 rfl rfl rfl ?_
  refine r_bipush 32 125 rfl rfl db_46 ?_
  exact r_callV lkV_X3_62_X3 (C := RX3) (TT := TX3) (NN := 2) rfl o1 33 128 rfl rfl (by decide) [.int 46] rfl rfl (Nat.le_of_ble_eq_true rfl) (Nat.le_of_ble_eq_true rfl) e2 (fun r w' h => Af.sub [0] rfl (k2 r w' h))
theorem e_X3_argument_128 {G : Gm} {κ : Nat → Nat} {φ : Nat → Option Nat} (hS : GS G κ φ) {w : Wd} {Q : Rs → Wd → Prop} {a1 : Nat} (hg : 27 ≤ w.2.2) (k1 : Q (.inl (some (.ref w.2.1))) (wset (wnew (wnew w (.inl (nX8, [.null, .null, .null])) 3) (arI .int 0 (fun _ => 0)) 0) w.2.1 (.inl (nX8, [.ref (κ 15), .ref a1, .ref (w.2.1 + 1)])))) : Rn G mX3_argument 128 [(1, .ref a1)] [] w Q := by
  refine r_new (fs := [.null, .null, .null]) (ty := tyX8) (T := TX8) (C := RX8) (N := 3) (ci := nX8) (n := 3) 34 131 rfl rfl rfl in_X8 tyX8_ok q1235 q1236 q99 rfl (by decide) (by show 12 + 3 ≤ w.2.2; omega) ?_
  show Rn G mX3_argument 131 [(1, .ref a1)] [.ref w.2.1] (wnew w (.inl (nX8, [.null, .null, .null])) 3) _
  refine r_dup 35 132 rfl rfl rfl ?_
  refine r_gets (v := .ref (κ 15)) (hS 15).1 q1306 36 135 rfl rfl ?_
  refine r_aload_n 37 136 0 rfl rfl rfl ?_
  refine r_iconst 38 137 rfl rfl di_0 ?_
  refine y_newI (n := 0) 39 139 rfl rfl (by decide) (by show 12 + 0 ≤ w.2.2 - (12 + 3); omega) ?_
  show Rn G mX3_argument 139 [(1, .ref a1)] [.ref (w.2.1 + 1), .ref a1, .ref (κ 15), .ref w.2.1, .ref w.2.1] (wnew (wnew w (.inl (nX8, [.null, .null, .null])) 3) (arI .int 0 (fun _ => 0)) 0) _
  refine r_callIN lkIN_X3_87 40 142 rfl rfl (by decide) [.ref (κ 15), .ref a1, .ref (w.2.1 + 1)] rfl rfl (Nat.le_of_ble_eq_true rfl) (Nat.le_of_ble_eq_true rfl) (e_X8_init hS (o1 := (wnew_n wnew_s (by show w.2.1 < (w.2.1 + 1); omega))) (k2 := ?_)) (fun _ _ h => h)
  show Rn G mX3_argument 142 [(1, .ref a1)] [.ref w.2.1] (wset (wnew (wnew w (.inl (nX8, [.null, .null, .null])) 3) (arI .int 0 (fun _ => 0)) 0) w.2.1 (.inl (nX8, [.ref (κ 15), .ref a1, .ref (w.2.1 + 1)]))) _
  exact r_aret 41 rfl rfl (Or.inl ⟨_, rfl⟩) (Or.inr ⟨_, rfl⟩) k1
theorem e_X3_text {G : Gm} {κ : Nat → Nat} {φ : Nat → Option Nat} (hS : GS G κ φ) {w : Wd} {Q : Rs → Wd → Prop} {a1 : Nat} {a2 : Nat} {m3 : Nat} (o1 : Lk G w a1 (.inl (nX3, [.ref a2, .int (nI m3)]))) {Q2 : Rs → Wd → Prop} (e2 : Ev G mX3_skip [.ref a1] w Q2) (k2 : ∀ r w', Q2 r w' → Af G mX3_text 1 4 [(0, .ref a1)] [] r w' Q) : Ev G mX3_text [.ref a1] w Q := by
  show Rn G mX3_text 0 [(0, .ref a1)] [] w Q
  refine r_aload_n 0 1 0 rfl rfl rfl ?_
  exact r_callV lkV_X3_29_X3 (C := RX3) (TT := TX3) (NN := 2) rfl o1 1 4 rfl rfl (by decide) [] rfl rfl (Nat.le_of_ble_eq_true rfl) (Nat.le_of_ble_eq_true rfl) e2 (fun r w' h => Af.sub [0] rfl (k2 r w' h))
theorem e_X3_text_4 {G : Gm} {κ : Nat → Nat} {φ : Nat → Option Nat} (hS : GS G κ φ) {w : Wd} {Q : Rs → Wd → Prop} {a1 : Nat} {a2 : Nat} {m3 : Nat} (o1 : w.1 a1 = some (.inl (nX3, [.ref a2, .int (nI m3)]))) (hg : 16 ≤ w.2.2) (hg2 : (12 + 16) ≤ w.2.2 - (12 + 4)) (k3 : Rn G mX3_text 29 [(0, .ref a1), (1, .int (nI m3)), (2, .ref w.2.1), (3, .int 1)] [] (wset (wnew (wnew (wset w a1 (.inl (nX3, [.ref a2, .int (nI (m3 + 1))]))) (.inl (nJ1, [.null, .int 0, .int 0, .int 0])) 4) (arB 16 (fun _ => 0)) 16) w.2.1 (.inl (nJ1, [.ref (w.2.1 + 1), .int 0, .int 0, .int 0]))) Q) : Rn G mX3_text 4 [(0, .ref a1)] [] w Q := by
  refine r_aload_n 2 5 0 rfl rfl rfl ?_
  refine r_get (v := .int (nI m3)) fl_X3_15_X3 3 8 rfl rfl (Or.inl o1) rfl ?_
  refine r_istore_n (lv' := [(1, .int (nI m3)), (0, .ref a1)]) 4 9 rfl rfl (Nat.le_of_ble_eq_true rfl) rfl ?_
  refine r_aload_n 5 10 1 rfl rfl rfl ?_
  refine r_dup 6 11 rfl rfl rfl ?_
  refine r_get (v := .int (nI m3)) fl_X3_15_X3 7 14 rfl rfl (Or.inl o1) rfl ?_
  refine r_iconst 8 15 rfl rfl di_1 ?_
  refine r_iadd 9 16 rfl rfl ?_
  refine x_eq (y := (nI (m3 + 1))) (nI_add _ _) ?_
  refine r_put (i := 1) fl_X3_15_X3 in_X3 q228 (ty0 := tyX3) tyX3_ok nmX3 10 19 rfl rfl o1 rfl rfl rfl (Nat.le_of_ble_eq_true rfl) ?_
  show Rn G mX3_text 19 [(1, .int (nI m3)), (0, .ref a1)] [] (wset w a1 (.inl (nX3, [.ref a2, .int (nI (m3 + 1))]))) _
  refine r_new (fs := [.null, .int 0, .int 0, .int 0]) (ty := tyJ1) (T := TJ1) (C := RJ1) (N := 4) (ci := nJ1) (n := 4) 11 22 rfl rfl rfl in_J1 tyJ1_ok q1216 q114 q62 rfl (by decide) (by show 12 + 4 ≤ w.2.2; omega) ?_
  show Rn G mX3_text 22 [(1, .int (nI m3)), (0, .ref a1)] [.ref w.2.1] (wnew (wset w a1 (.inl (nX3, [.ref a2, .int (nI (m3 + 1))]))) (.inl (nJ1, [.null, .int 0, .int 0, .int 0])) 4) _
  refine r_dup 12 23 rfl rfl rfl ?_
  refine r_callI lkI_X3_70 13 26 rfl rfl (by decide) [] rfl rfl (Nat.le_of_ble_eq_true rfl) (Nat.le_of_ble_eq_true rfl) (e_J1_init hS (o1 := wnew_s) (hg2 := hg2) (k3 := ?_)) (fun _ _ h => h)
  show Rn G mX3_text 26 [(1, .int (nI m3)), (0, .ref a1)] [.ref w.2.1] (wset (wnew (wnew (wset w a1 (.inl (nX3, [.ref a2, .int (nI (m3 + 1))]))) (.inl (nJ1, [.null, .int 0, .int 0, .int 0])) 4) (arB 16 (fun _ => 0)) 16) w.2.1 (.inl (nJ1, [.ref (w.2.1 + 1), .int 0, .int 0, .int 0]))) _
  refine r_astore_n (lv' := [(2, .ref w.2.1), (1, .int (nI m3)), (0, .ref a1)]) 14 27 rfl rfl (Nat.le_of_ble_eq_true rfl) rfl ?_
  refine r_iconst 15 28 rfl rfl di_1 ?_
  refine r_istore_n (lv' := [(3, .int 1), (2, .ref w.2.1), (1, .int (nI m3)), (0, .ref a1)]) 16 29 rfl rfl (Nat.le_of_ble_eq_true rfl) rfl ?_
  exact r_sub [3, 2, 1, 0] rfl k3
theorem e_X3_text_29 {G : Gm} {κ : Nat → Nat} {φ : Nat → Option Nat} (hS : GS G κ φ) {w : Wd} {Q : Rs → Wd → Prop} {a1 : Nat} {m2 : Nat} {a3 : Nat} {x4 : Int32} {a5 : Nat} {x6 : Int32} {m7 : Nat} {a8 : Nat} {m9 : Nat} {a10 : Nat} {x11 : Int32} {m12 : Nat} (o1 : Lk G w a3 (.inl (nJ1, [.ref a5, .int 0, .int x6, .int (nI m7)]))) (bd2 : m7 < 2 ^ 31) (o3 : Lk G w a1 (.inl (nX3, [.ref a8, .int (nI m9)]))) {Q4 : Rs → Wd → Prop} (e4 : x4 = 0 → 20 < m7 → Ev G mX3_want_2 [.ref a1, .int 0, .int (nI m2)] w Q4) (k4 : x4 = 0 → 20 < m7 → ∀ r w', Q4 r w' → Af G mX3_text 185 188 [(2, .ref a3)] [] r w' Q) {Q5 : Rs → Wd → Prop} (e5 : x4 = 0 → ¬ 20 < m7 → Ev G mX3_want_2 [.ref a1, .int 1, .int (nI m2)] w Q5) (k5 : x4 = 0 → ¬ 20 < m7 → ∀ r w', Q5 r w' → Af G mX3_text 185 188 [(2, .ref a3)] [] r w' Q) (o6 : Lk G w a8 (.inl (nJ1, [.ref a10, .int 0, .int x11, .int (nI m12)]))) (bd7 : m9 < 2 ^ 31) (bd8 : m12 < 2 ^ 31) {Q9 : Rs → Wd → Prop} (e9 : ¬ x4 = 0 → m12 ≤ m9 → Ev G mX3_want_2 [.ref a1, .int 0, .int (nI m2)] w Q9) (k9 : ¬ x4 = 0 → m12 ≤ m9 → ∀ r w', Q9 r w' → Af G mX3_text 54 57 [(0, .ref a1), (1, .int (nI m2)), (2, .ref a3)] [] r w' Q) {Q10 : Rs → Wd → Prop} (e10 : ¬ x4 = 0 → ¬ m12 ≤ m9 → Ev G mX3_want_2 [.ref a1, .int 1, .int (nI m2)] w Q10) (k10 : ¬ x4 = 0 → ¬ m12 ≤ m9 → ∀ r w', Q10 r w' → Af G mX3_text 54 57 [(0, .ref a1), (1, .int (nI m2)), (2, .ref a3)] [] r w' Q) : Rn G mX3_text 29 [(0, .ref a1), (1, .int (nI m2)), (2, .ref a3), (3, .int x4)] [] w Q := by
  refine r_iload_n 17 30 3 rfl rfl rfl ?_
  refine r_if_eq 18 33 169 rfl rfl rfl (fun c1 => ?_) (fun c1 => ?_)
  · refine r_aload_n 87 170 0 rfl rfl rfl ?_
    refine r_aload_n 88 171 2 rfl rfl rfl ?_
    refine r_callV lkV_X3_19_J1 (C := RJ1) (TT := TJ1) (NN := 4) rfl o1 89 174 rfl rfl (by decide) [] rfl rfl (Nat.le_of_ble_eq_true rfl) (Nat.le_of_ble_eq_true rfl) (e_J1_length hS (m4 := m7) (o1 := o1) (k2 := ?_)) (fun _ _ h => h)
    show Rn G mX3_text 174 [(0, .ref a1), (1, .int (nI m2)), (2, .ref a3), (3, .int x4)] [.int (nI m7), .ref a1] w _
    refine r_bipush 90 176 rfl rfl db_20 ?_
    refine y_icmp_gt (a := m7) (b := 20) bd2 (by decide) 91 179 183 rfl rfl rfl (fun c2 => ?_) (fun c2 => ?_)
    · refine r_iconst 94 184 rfl rfl di_0 ?_
      refine r_iload_n 95 185 1 rfl rfl rfl ?_
      exact r_callV lkV_X3_41_X3 (C := RX3) (TT := TX3) (NN := 2) rfl o3 96 188 rfl rfl (by decide) [.int 0, .int (nI m2)] rfl rfl (Nat.le_of_ble_eq_true rfl) (Nat.le_of_ble_eq_true rfl) (e4 c1 c2) (fun r w' h => Af.sub [2] rfl ((k4 c1 c2) r w' h))
    · refine r_iconst 92 180 rfl rfl di_1 ?_
      refine r_goto 93 184 rfl rfl ?_
      refine r_iload_n 95 185 1 rfl rfl rfl ?_
      exact r_callV lkV_X3_41_X3 (C := RX3) (TT := TX3) (NN := 2) rfl o3 96 188 rfl rfl (by decide) [.int 1, .int (nI m2)] rfl rfl (Nat.le_of_ble_eq_true rfl) (Nat.le_of_ble_eq_true rfl) (e5 c1 c2) (fun r w' h => Af.sub [2] rfl ((k5 c1 c2) r w' h))
  · refine r_aload_n 19 34 0 rfl rfl rfl ?_
    refine r_aload_n 20 35 0 rfl rfl rfl ?_
    refine r_get (v := .int (nI m9)) fl_X3_15_X3 21 38 rfl rfl o3 rfl ?_
    refine r_aload_n 22 39 0 rfl rfl rfl ?_
    refine r_get (v := .ref a8) fl_X3_9_X3 23 42 rfl rfl o3 rfl ?_
    refine r_callV lkV_X3_19_J1 (C := RJ1) (TT := TJ1) (NN := 4) rfl o6 24 45 rfl rfl (by decide) [] rfl rfl (Nat.le_of_ble_eq_true rfl) (Nat.le_of_ble_eq_true rfl) (e_J1_length hS (m4 := m12) (o1 := o6) (k2 := ?_)) (fun _ _ h => h)
    show Rn G mX3_text 45 [(0, .ref a1), (1, .int (nI m2)), (2, .ref a3), (3, .int x4)] [.int (nI m12), .int (nI m9), .ref a1] w _
    refine y_icmp_ge (a := m9) (b := m12) bd7 bd8 25 48 52 rfl rfl rfl (fun c2 => ?_) (fun c2 => ?_)
    · refine r_iconst 28 53 rfl rfl di_0 ?_
      refine r_iload_n 29 54 1 rfl rfl rfl ?_
      exact r_callV lkV_X3_41_X3 (C := RX3) (TT := TX3) (NN := 2) rfl o3 30 57 rfl rfl (by decide) [.int 0, .int (nI m2)] rfl rfl (Nat.le_of_ble_eq_true rfl) (Nat.le_of_ble_eq_true rfl) (e9 c1 c2) (fun r w' h => Af.sub [0, 1, 2] rfl ((k9 c1 c2) r w' h))
    · refine r_iconst 26 49 rfl rfl di_1 ?_
      refine r_goto 27 53 rfl rfl ?_
      refine r_iload_n 29 54 1 rfl rfl rfl ?_
      exact r_callV lkV_X3_41_X3 (C := RX3) (TT := TX3) (NN := 2) rfl o3 30 57 rfl rfl (by decide) [.int 1, .int (nI m2)] rfl rfl (Nat.le_of_ble_eq_true rfl) (Nat.le_of_ble_eq_true rfl) (e10 c1 c2) (fun r w' h => Af.sub [0, 1, 2] rfl ((k10 c1 c2) r w' h))
theorem e_X3_text_188 {G : Gm} {κ : Nat → Nat} {φ : Nat → Option Nat} (hS : GS G κ φ) {w : Wd} {Q : Rs → Wd → Prop} {a1 : Nat} {a2 : Nat} {x3 : Int32} {m4 : Nat} (hg : 15 ≤ w.2.2) (o1 : Lk G w a1 (.inl (nJ1, [.ref a2, .int 0, .int x3, .int (nI m4)]))) {Q2 : Rs → Wd → Prop} (e2 : Ev G mJ1_toString [.ref a1] (wnew w (.inl (nX8, [.null, .null, .null])) 3) Q2) (k2 : ∀ r w', Q2 r w' → Af G mX3_text 196 199 [] [.ref (κ 11), .ref w.2.1, .ref w.2.1] r w' Q) : Rn G mX3_text 188 [(2, .ref a1)] [] w Q := by
  refine Rn.wok fun hwk => ?_
  refine r_new (fs := [.null, .null, .null]) (ty := tyX8) (T := TX8) (C := RX8) (N := 3) (ci := nX8) (n := 3) 97 191 rfl rfl rfl in_X8 tyX8_ok q1235 q1236 q99 rfl (by decide) (by show 12 + 3 ≤ w.2.2; omega) ?_
  show Rn G mX3_text 191 [(2, .ref a1)] [.ref w.2.1] (wnew w (.inl (nX8, [.null, .null, .null])) 3) _
  refine r_dup 98 192 rfl rfl rfl ?_
  refine r_gets (v := .ref (κ 11)) (hS 11).1 q1237 99 195 rfl rfl ?_
  refine r_aload_n 100 196 0 rfl rfl rfl ?_
  exact r_callV lkV_X3_83_J1 (C := RJ1) (TT := TJ1) (NN := 4) rfl (Lk.new_n o1 (by have := (o1.lt hwk); show a1 < w.2.1; omega)) 101 199 rfl rfl (by decide) [] rfl rfl (Nat.le_of_ble_eq_true rfl) (Nat.le_of_ble_eq_true rfl) e2 (fun r w' h => Af.sub [] rfl (k2 r w' h))
theorem e_X3_text_57 {G : Gm} {κ : Nat → Nat} {φ : Nat → Option Nat} (hS : GS G κ φ) {w : Wd} {Q : Rs → Wd → Prop} {a1 : Nat} {m2 : Nat} {a3 : Nat} {a4 : Nat} {m5 : Nat} {a6 : Nat} {x7 : Int32} {m8 : Nat} {n9 : Nat} {g10 : Nat → Nat} {a11 : Nat} {x12 : Int32} {m13 : Nat} (o1 : w.1 a1 = some (.inl (nX3, [.ref a4, .int (nI m5)]))) (o2 : Lk G w a4 (.inl (nJ1, [.ref a6, .int 0, .int x7, .int (nI m8)]))) (o3 : Lk G w a6 (arB n9 g10)) (b4 : m8 < 2 ^ 31) (b5 : n9 < 2 ^ 31) (f6 : ¬ n9 < m8) (b7 : m5 < 2 ^ 31) (f8 : m5 < m8) (q9 : (g10 m5) < 128) (bd10 : (g10 m5) < 2 ^ 31) (o11 : Lk G w a3 (.inl (nJ1, [.ref a11, .int 0, .int x12, .int (nI m13)]))) {Q12 : Rs → Wd → Prop} (e12 : ¬ (g10 m5) = 39 → Ev G mJ1_append_3 [.ref a3, .int (nI (g10 m5))] w Q12) (k12 : ¬ (g10 m5) = 39 → ∀ r w', Q12 r w' → Af G mX3_text 143 146 [(0, .ref a1), (1, .int (nI m2)), (2, .ref a3), (3, .int 1), (5, .int 0)] [] r w' Q) (k13 : (g10 m5) = 39 → m8 ≤ (m5 + 1) → Rn G mX3_text 29 [(0, .ref a1), (1, .int (nI m2)), (2, .ref a3), (3, .int 0)] [] (wset w a1 (.inl (nX3, [.ref a4, .int (nI (m5 + 1))]))) Q) (q14 : (g10 m5) = 39 → ¬ m8 ≤ (m5 + 1) → (g10 (m5 + 1)) < 128) (bd15 : (g10 (m5 + 1)) < 2 ^ 31) (k16 : (g10 m5) = 39 → ¬ m8 ≤ (m5 + 1) → ¬ (g10 (m5 + 1)) = 39 → Rn G mX3_text 29 [(0, .ref a1), (1, .int (nI m2)), (2, .ref a3), (3, .int 0)] [] (wset w a1 (.inl (nX3, [.ref a4, .int (nI (m5 + 1))]))) Q) {Q17 : Rs → Wd → Prop} (e17 : (g10 m5) = 39 → ¬ m8 ≤ (m5 + 1) → (g10 (m5 + 1)) = 39 → Ev G mJ1_append_3 [.ref a3, .int (nI (g10 m5))] w Q17) (k17 : (g10 m5) = 39 → ¬ m8 ≤ (m5 + 1) → (g10 (m5 + 1)) = 39 → ∀ r w', Q17 r w' → Af G mX3_text 143 146 [(0, .ref a1), (1, .int (nI m2)), (2, .ref a3), (3, .int 1), (5, .int 1)] [] r w' Q) : Rn G mX3_text 57 [(0, .ref a1), (1, .int (nI m2)), (2, .ref a3)] [] w Q := by
  refine r_aload_n 31 58 0 rfl rfl rfl ?_
  refine r_get (v := .ref a4) fl_X3_9_X3 32 61 rfl rfl (Or.inl o1) rfl ?_
  refine r_aload_n 33 62 0 rfl rfl rfl ?_
  refine r_get (v := .int (nI m5)) fl_X3_15_X3 34 65 rfl rfl (Or.inl o1) rfl ?_
  refine r_callV lkV_X3_25_J1 (C := RJ1) (TT := TJ1) (NN := 4) rfl o2 35 68 rfl rfl (by decide) [.int (nI m5)] rfl rfl (Nat.le_of_ble_eq_true rfl) (Nat.le_of_ble_eq_true rfl) (e_J1_charAt hS (m5 := m8) (m2 := m5) (o1 := o2) (o2 := o3) (b3 := b4) (b4 := b5) (f5 := f6) (b6 := b7) (f7 := f8) (q8 := q9) (k9 := ?_)) (fun _ _ h => h)
  show Rn G mX3_text 68 [(0, .ref a1), (1, .int (nI m2)), (2, .ref a3)] [.int (nI (g10 m5))] w _
  refine r_istore (lv' := [(4, .int (nI (g10 m5))), (0, .ref a1), (1, .int (nI m2)), (2, .ref a3)]) 36 70 rfl rfl (Nat.le_of_ble_eq_true rfl) rfl ?_
  refine r_iload 37 72 0 rfl rfl rfl ?_
  refine r_bipush 38 74 rfl rfl db_39 ?_
  refine y_icmp_ne (a := (g10 m5)) (b := 39) bd10 (by decide) 39 77 115 rfl rfl rfl (fun c1 => ?_) (fun c1 => ?_)
  · refine r_iconst 59 116 rfl rfl di_0 ?_
    refine r_istore (lv' := [(5, .int 0), (4, .int (nI (g10 m5))), (0, .ref a1), (1, .int (nI m2)), (2, .ref a3)]) 60 118 rfl rfl (Nat.le_of_ble_eq_true rfl) rfl ?_
    refine r_iload 61 120 1 rfl rfl rfl ?_
    refine r_bipush 62 122 rfl rfl db_39 ?_
    refine y_icmp_ne (a := (g10 m5)) (b := 39) bd10 (by decide) 63 125 130 rfl rfl rfl (fun _ => ?_) (fun c => absurd c c1)
    refine r_iconst 66 131 rfl rfl di_1 ?_
    refine r_goto 67 135 rfl rfl ?_
    refine r_istore_n (lv' := [(3, .int 1), (5, .int 0), (4, .int (nI (g10 m5))), (0, .ref a1), (1, .int (nI m2)), (2, .ref a3)]) 69 136 rfl rfl (Nat.le_of_ble_eq_true rfl) rfl ?_
    refine r_iload_n 70 137 0 rfl rfl rfl ?_
    refine r_if_eq 71 140 147 rfl rfl rfl (fun c => absurd c (by decide)) (fun _ => ?_)
    refine r_aload_n 72 141 5 rfl rfl rfl ?_
    refine r_iload 73 143 2 rfl rfl rfl ?_
    exact r_callV lkV_X3_71_J1 (C := RJ1) (TT := TJ1) (NN := 4) rfl o11 74 146 rfl rfl (by decide) [.int (nI (g10 m5))] rfl rfl (Nat.le_of_ble_eq_true rfl) (Nat.le_of_ble_eq_true rfl) (e12 c1) (fun r w' h => Af.sub [3, 4, 5, 0, 1] rfl ((k12 c1) r w' h))
  · refine r_aload_n 40 78 1 rfl rfl rfl ?_
    refine r_get (v := .int (nI m5)) fl_X3_15_X3 41 81 rfl rfl (Or.inl o1) rfl ?_
    refine r_iconst 42 82 rfl rfl di_1 ?_
    refine r_iadd 43 83 rfl rfl ?_
    refine x_eq (y := (nI (m5 + 1))) (nI_add _ _) ?_
    refine r_aload_n 44 84 1 rfl rfl rfl ?_
    refine r_get (v := .ref a4) fl_X3_9_X3 45 87 rfl rfl (Or.inl o1) rfl ?_
    refine r_callV lkV_X3_19_J1 (C := RJ1) (TT := TJ1) (NN := 4) rfl o2 46 90 rfl rfl (by decide) [] rfl rfl (Nat.le_of_ble_eq_true rfl) (Nat.le_of_ble_eq_true rfl) (e_J1_length hS (m4 := m8) (o1 := o2) (k2 := ?_)) (fun _ _ h => h)
    show Rn G mX3_text 90 [(4, .int (nI (g10 m5))), (0, .ref a1), (1, .int (nI m2)), (2, .ref a3)] [.int (nI m8), .int (nI (m5 + 1))] w _
    refine y_icmp_ge (a := (m5 + 1)) (b := m8) (by omega) (by omega) 47 93 115 rfl rfl rfl (fun c2 => ?_) (fun c2 => ?_)
    · refine r_iconst 59 116 rfl rfl di_0 ?_
      refine r_istore (lv' := [(5, .int 0), (4, .int (nI (g10 m5))), (0, .ref a1), (1, .int (nI m2)), (2, .ref a3)]) 60 118 rfl rfl (Nat.le_of_ble_eq_true rfl) rfl ?_
      refine r_iload 61 120 1 rfl rfl rfl ?_
      refine r_bipush 62 122 rfl rfl db_39 ?_
      refine y_icmp_ne (a := (g10 m5)) (b := 39) bd10 (by decide) 63 125 130 rfl rfl rfl (fun c => absurd c1 c) (fun _ => ?_)
      refine r_iload 64 127 0 rfl rfl rfl ?_
      refine r_if_eq 65 130 134 rfl rfl rfl (fun _ => ?_) (fun c => absurd c (by decide))
      refine r_iconst 68 135 rfl rfl di_0 ?_
      refine r_istore_n (lv' := [(3, .int 0), (5, .int 0), (4, .int (nI (g10 m5))), (0, .ref a1), (1, .int (nI m2)), (2, .ref a3)]) 69 136 rfl rfl (Nat.le_of_ble_eq_true rfl) rfl ?_
      refine r_iload_n 70 137 0 rfl rfl rfl ?_
      refine r_if_eq 71 140 147 rfl rfl rfl (fun _ => ?_) (fun c => absurd c (by decide))
      refine r_aload_n 76 148 3 rfl rfl rfl ?_
      refine r_dup 77 149 rfl rfl rfl ?_
      refine r_get (v := .int (nI m5)) fl_X3_15_X3 78 152 rfl rfl (Or.inl o1) rfl ?_
      refine r_iload 79 154 1 rfl rfl rfl ?_
      refine r_if_eq 80 157 161 rfl rfl rfl (fun _ => ?_) (fun c => absurd c (by decide))
      refine r_iconst 83 162 rfl rfl di_1 ?_
      refine r_iadd 84 163 rfl rfl ?_
      refine x_eq (y := (nI (m5 + 1))) (nI_add _ _) ?_
      refine r_put (i := 1) fl_X3_15_X3 in_X3 q228 (ty0 := tyX3) tyX3_ok nmX3 85 166 rfl rfl o1 rfl rfl rfl (Nat.le_of_ble_eq_true rfl) ?_
      show Rn G mX3_text 166 [(3, .int 0), (5, .int 0), (4, .int (nI (g10 m5))), (0, .ref a1), (1, .int (nI m2)), (2, .ref a3)] [] (wset w a1 (.inl (nX3, [.ref a4, .int (nI (m5 + 1))]))) _
      refine r_goto 86 29 rfl rfl ?_
      exact r_sub [3, 4, 5, 0] rfl (k13 c1 c2)
    · refine r_aload_n 48 94 1 rfl rfl rfl ?_
      refine r_get (v := .ref a4) fl_X3_9_X3 49 97 rfl rfl (Or.inl o1) rfl ?_
      refine r_aload_n 50 98 1 rfl rfl rfl ?_
      refine r_get (v := .int (nI m5)) fl_X3_15_X3 51 101 rfl rfl (Or.inl o1) rfl ?_
      refine r_iconst 52 102 rfl rfl di_1 ?_
      refine r_iadd 53 103 rfl rfl ?_
      refine x_eq (y := (nI (m5 + 1))) (nI_add _ _) ?_
      refine r_callV lkV_X3_25_J1 (C := RJ1) (TT := TJ1) (NN := 4) rfl o2 54 106 rfl rfl (by decide) [.int (nI (m5 + 1))] rfl rfl (Nat.le_of_ble_eq_true rfl) (Nat.le_of_ble_eq_true rfl) (e_J1_charAt hS (m5 := m8) (m2 := (m5 + 1)) (o1 := o2) (o2 := o3) (b3 := (by omega)) (b4 := (by omega)) (f5 := (by omega)) (b6 := (by omega)) (f7 := (by omega)) (q8 := (q14 c1 c2)) (k9 := ?_)) (fun _ _ h => h)
      show Rn G mX3_text 106 [(4, .int (nI (g10 m5))), (0, .ref a1), (1, .int (nI m2)), (2, .ref a3)] [.int (nI (g10 (m5 + 1)))] w _
      refine r_bipush 55 108 rfl rfl db_39 ?_
      refine y_icmp_ne (a := (g10 (m5 + 1))) (b := 39) bd15 (by decide) 56 111 115 rfl rfl rfl (fun c3 => ?_) (fun c3 => ?_)
      · refine r_iconst 59 116 rfl rfl di_0 ?_
        refine r_istore (lv' := [(5, .int 0), (4, .int (nI (g10 m5))), (0, .ref a1), (1, .int (nI m2)), (2, .ref a3)]) 60 118 rfl rfl (Nat.le_of_ble_eq_true rfl) rfl ?_
        refine r_iload 61 120 1 rfl rfl rfl ?_
        refine r_bipush 62 122 rfl rfl db_39 ?_
        refine y_icmp_ne (a := (g10 m5)) (b := 39) bd10 (by decide) 63 125 130 rfl rfl rfl (fun c => absurd c1 c) (fun _ => ?_)
        refine r_iload 64 127 0 rfl rfl rfl ?_
        refine r_if_eq 65 130 134 rfl rfl rfl (fun _ => ?_) (fun c => absurd c (by decide))
        refine r_iconst 68 135 rfl rfl di_0 ?_
        refine r_istore_n (lv' := [(3, .int 0), (5, .int 0), (4, .int (nI (g10 m5))), (0, .ref a1), (1, .int (nI m2)), (2, .ref a3)]) 69 136 rfl rfl (Nat.le_of_ble_eq_true rfl) rfl ?_
        refine r_iload_n 70 137 0 rfl rfl rfl ?_
        refine r_if_eq 71 140 147 rfl rfl rfl (fun _ => ?_) (fun c => absurd c (by decide))
        refine r_aload_n 76 148 3 rfl rfl rfl ?_
        refine r_dup 77 149 rfl rfl rfl ?_
        refine r_get (v := .int (nI m5)) fl_X3_15_X3 78 152 rfl rfl (Or.inl o1) rfl ?_
        refine r_iload 79 154 1 rfl rfl rfl ?_
        refine r_if_eq 80 157 161 rfl rfl rfl (fun _ => ?_) (fun c => absurd c (by decide))
        refine r_iconst 83 162 rfl rfl di_1 ?_
        refine r_iadd 84 163 rfl rfl ?_
        refine x_eq (y := (nI (m5 + 1))) (nI_add _ _) ?_
        refine r_put (i := 1) fl_X3_15_X3 in_X3 q228 (ty0 := tyX3) tyX3_ok nmX3 85 166 rfl rfl o1 rfl rfl rfl (Nat.le_of_ble_eq_true rfl) ?_
        show Rn G mX3_text 166 [(3, .int 0), (5, .int 0), (4, .int (nI (g10 m5))), (0, .ref a1), (1, .int (nI m2)), (2, .ref a3)] [] (wset w a1 (.inl (nX3, [.ref a4, .int (nI (m5 + 1))]))) _
        refine r_goto 86 29 rfl rfl ?_
        exact r_sub [3, 4, 5, 0] rfl (k16 c1 c2 c3)
      · refine r_iconst 57 112 rfl rfl di_1 ?_
        refine r_goto 58 116 rfl rfl ?_
        refine r_istore (lv' := [(5, .int 1), (4, .int (nI (g10 m5))), (0, .ref a1), (1, .int (nI m2)), (2, .ref a3)]) 60 118 rfl rfl (Nat.le_of_ble_eq_true rfl) rfl ?_
        refine r_iload 61 120 1 rfl rfl rfl ?_
        refine r_bipush 62 122 rfl rfl db_39 ?_
        refine y_icmp_ne (a := (g10 m5)) (b := 39) bd10 (by decide) 63 125 130 rfl rfl rfl (fun c => absurd c1 c) (fun _ => ?_)
        refine r_iload 64 127 0 rfl rfl rfl ?_
        refine r_if_eq 65 130 134 rfl rfl rfl (fun c => absurd c (by decide)) (fun _ => ?_)
        refine r_iconst 66 131 rfl rfl di_1 ?_
        refine r_goto 67 135 rfl rfl ?_
        refine r_istore_n (lv' := [(3, .int 1), (5, .int 1), (4, .int (nI (g10 m5))), (0, .ref a1), (1, .int (nI m2)), (2, .ref a3)]) 69 136 rfl rfl (Nat.le_of_ble_eq_true rfl) rfl ?_
        refine r_iload_n 70 137 0 rfl rfl rfl ?_
        refine r_if_eq 71 140 147 rfl rfl rfl (fun c => absurd c (by decide)) (fun _ => ?_)
        refine r_aload_n 72 141 5 rfl rfl rfl ?_
        refine r_iload 73 143 2 rfl rfl rfl ?_
        exact r_callV lkV_X3_71_J1 (C := RJ1) (TT := TJ1) (NN := 4) rfl o11 74 146 rfl rfl (by decide) [.int (nI (g10 m5))] rfl rfl (Nat.le_of_ble_eq_true rfl) (Nat.le_of_ble_eq_true rfl) (e17 c1 c2 c3) (fun r w' h => Af.sub [3, 4, 5, 0, 1] rfl ((k17 c1 c2 c3) r w' h))
theorem e_X3_text_199 {G : Gm} {κ : Nat → Nat} {φ : Nat → Option Nat} (hS : GS G κ φ) {w : Wd} {Q : Rs → Wd → Prop} {a1 : Nat} {nww21 : Nat} (o1 : w.1 nww21 = some (.inl (nX8, [.null, .null, .null]))) (hg : 12 ≤ w.2.2) (k2 : Q (.inl (some (.ref nww21))) (wset (wnew w (arI .int 0 (fun _ => 0)) 0) nww21 (.inl (nX8, [.ref (κ 11), .ref a1, .ref w.2.1])))) : Rn G mX3_text 199 [] [.ref a1, .ref (κ 11), .ref nww21, .ref nww21] w Q := by
  refine Rn.wok fun hwk => ?_
  refine r_iconst 102 200 rfl rfl di_0 ?_
  refine y_newI (n := 0) 103 202 rfl rfl (by decide) (by show 12 + 0 ≤ w.2.2; omega) ?_
  show Rn G mX3_text 202 [] [.ref w.2.1, .ref a1, .ref (κ 11), .ref nww21, .ref nww21] (wnew w (arI .int 0 (fun _ => 0)) 0) _
  refine r_callIN lkIN_X3_87 104 205 rfl rfl (by decide) [.ref (κ 11), .ref a1, .ref w.2.1] rfl rfl (Nat.le_of_ble_eq_true rfl) (Nat.le_of_ble_eq_true rfl) (e_X8_init hS (o1 := (wnew_n o1 (by have := (hwk.1 _ _ o1).2; show nww21 < w.2.1; omega))) (k2 := ?_)) (fun _ _ h => h)
  show Rn G mX3_text 205 [] [.ref nww21] (wset (wnew w (arI .int 0 (fun _ => 0)) 0) nww21 (.inl (nX8, [.ref (κ 11), .ref a1, .ref w.2.1]))) _
  exact r_aret 105 rfl rfl (Or.inl ⟨_, rfl⟩) (Or.inr ⟨_, rfl⟩) k2
theorem e_X3_text_146 {G : Gm} {κ : Nat → Nat} {φ : Nat → Option Nat} (hS : GS G κ φ) {w : Wd} {Q : Rs → Wd → Prop} {a1 : Nat} {m2 : Nat} {a3 : Nat} {x4 : Int32} {x5 : Int32} {a6 : Nat} {a7 : Nat} {m8 : Nat} (o1 : w.1 a1 = some (.inl (nX3, [.ref a7, .int (nI m8)]))) (k2 : x5 = 0 → Rn G mX3_text 29 [(0, .ref a1), (1, .int (nI m2)), (2, .ref a3), (3, .int x4)] [] (wset w a1 (.inl (nX3, [.ref a7, .int (nI (m8 + 1))]))) Q) (k3 : ¬ x5 = 0 → Rn G mX3_text 29 [(0, .ref a1), (1, .int (nI m2)), (2, .ref a3), (3, .int x4)] [] (wset w a1 (.inl (nX3, [.ref a7, .int (nI (m8 + 2))]))) Q) : Rn G mX3_text 146 [(0, .ref a1), (1, .int (nI m2)), (2, .ref a3), (3, .int x4), (5, .int x5)] [.ref a6] w Q := by
  refine r_pop 75 147 rfl rfl rfl ?_
  refine r_aload_n 76 148 0 rfl rfl rfl ?_
  refine r_dup 77 149 rfl rfl rfl ?_
  refine r_get (v := .int (nI m8)) fl_X3_15_X3 78 152 rfl rfl (Or.inl o1) rfl ?_
  refine r_iload 79 154 4 rfl rfl rfl ?_
  refine r_if_eq 80 157 161 rfl rfl rfl (fun c1 => ?_) (fun c1 => ?_)
  · refine r_iconst 83 162 rfl rfl di_1 ?_
    refine r_iadd 84 163 rfl rfl ?_
    refine x_eq (y := (nI (m8 + 1))) (nI_add _ _) ?_
    refine r_put (i := 1) fl_X3_15_X3 in_X3 q228 (ty0 := tyX3) tyX3_ok nmX3 85 166 rfl rfl o1 rfl rfl rfl (Nat.le_of_ble_eq_true rfl) ?_
    show Rn G mX3_text 166 [(0, .ref a1), (1, .int (nI m2)), (2, .ref a3), (3, .int x4), (5, .int x5)] [] (wset w a1 (.inl (nX3, [.ref a7, .int (nI (m8 + 1))]))) _
    refine r_goto 86 29 rfl rfl ?_
    exact r_sub [0, 1, 2, 3] rfl (k2 c1)
  · refine r_iconst 81 158 rfl rfl di_2 ?_
    refine r_goto 82 162 rfl rfl ?_
    refine r_iadd 84 163 rfl rfl ?_
    refine x_eq (y := (nI (m8 + 2))) (nI_add _ _) ?_
    refine r_put (i := 1) fl_X3_15_X3 in_X3 q228 (ty0 := tyX3) tyX3_ok nmX3 85 166 rfl rfl o1 rfl rfl rfl (Nat.le_of_ble_eq_true rfl) ?_
    show Rn G mX3_text 166 [(0, .ref a1), (1, .int (nI m2)), (2, .ref a3), (3, .int x4), (5, .int x5)] [] (wset w a1 (.inl (nX3, [.ref a7, .int (nI (m8 + 2))]))) _
    refine r_goto 86 29 rfl rfl ?_
    exact r_sub [0, 1, 2, 3] rfl (k3 c1)
theorem e_X3_list {G : Gm} {κ : Nat → Nat} {φ : Nat → Option Nat} (hS : GS G κ φ) {w : Wd} {Q : Rs → Wd → Prop} {a1 : Nat} {a2 : Nat} {m3 : Nat} (o1 : Lk G w a1 (.inl (nX3, [.ref a2, .int (nI m3)]))) {Q2 : Rs → Wd → Prop} (e2 : Ev G mX3_take [.ref a1, .int 40] w Q2) (k2 : ∀ r w', Q2 r w' → Af G mX3_list 3 6 [(0, .ref a1)] [] r w' Q) : Ev G mX3_list [.ref a1] w Q := by
  show Rn G mX3_list 0 [(0, .ref a1)] [] w Q
  refine r_aload_n 0 1 0 rfl rfl rfl ?_
  refine r_bipush 1 3 rfl rfl db_40 ?_
  exact r_callV lkV_X3_62_X3 (C := RX3) (TT := TX3) (NN := 2) rfl o1 2 6 rfl rfl (by decide) [.int 40] rfl rfl (Nat.le_of_ble_eq_true rfl) (Nat.le_of_ble_eq_true rfl) e2 (fun r w' h => Af.sub [0] rfl (k2 r w' h))
theorem e_X3_list_6 {G : Gm} {κ : Nat → Nat} {φ : Nat → Option Nat} (hS : GS G κ φ) {w : Wd} {Q : Rs → Wd → Prop} {a1 : Nat} {a2 : Nat} {m3 : Nat} (o1 : Lk G w a1 (.inl (nX3, [.ref a2, .int (nI m3)]))) {Q2 : Rs → Wd → Prop} (e2 : Ev G mX3_is [.ref a1, .int 35] w Q2) (k2 : ∀ r w', Q2 r w' → Af G mX3_list 9 12 [(0, .ref a1)] [] r w' Q) : Rn G mX3_list 6 [(0, .ref a1)] [] w Q := by
  refine r_aload_n 3 7 0 rfl rfl rfl ?_
  refine r_bipush 4 9 rfl rfl db_35 ?_
  exact r_callV lkV_X3_45_X3 (C := RX3) (TT := TX3) (NN := 2) rfl o1 5 12 rfl rfl (by decide) [.int 35] rfl rfl (Nat.le_of_ble_eq_true rfl) (Nat.le_of_ble_eq_true rfl) e2 (fun r w' h => Af.sub [0] rfl (k2 r w' h))
theorem e_X3_list_12 {G : Gm} {κ : Nat → Nat} {φ : Nat → Option Nat} (hS : GS G κ φ) {w : Wd} {Q : Rs → Wd → Prop} {a1 : Nat} {x2 : Int32} {a3 : Nat} {m4 : Nat} (hg : 15 ≤ w.2.2) (o1 : Lk G w a1 (.inl (nX3, [.ref a3, .int (nI m4)]))) {Q2 : Rs → Wd → Prop} (e2 : Ev G mX3_is [.ref a1, .int 41] (wset (wnew w (.inl (nJ6, [.int 0, .null, .int 0])) 3) w.2.1 (.inl (nJ6, [.int 0, .ref (κ 1), .int 0]))) Q2) (k2 : ∀ r w', Q2 r w' → Af G mX3_list 24 27 [(0, .ref a1), (1, .int x2), (2, .ref w.2.1)] [] r w' Q) : Rn G mX3_list 12 [(0, .ref a1)] [.int x2] w Q := by
  refine Rn.wok fun hwk => ?_
  refine r_istore_n (lv' := [(1, .int x2), (0, .ref a1)]) 6 13 rfl rfl (Nat.le_of_ble_eq_true rfl) rfl ?_
  refine r_new (fs := [.int 0, .null, .int 0]) (ty := tyJ6) (T := TJ6) (C := RJ6) (N := 3) (ci := nJ6) (n := 3) 7 16 rfl rfl rfl in_J6 tyJ6_ok q1280 q147 q67 rfl (by decide) (by show 12 + 3 ≤ w.2.2; omega) ?_
  show Rn G mX3_list 16 [(1, .int x2), (0, .ref a1)] [.ref w.2.1] (wnew w (.inl (nJ6, [.int 0, .null, .int 0])) 3) _
  refine r_dup 8 17 rfl rfl rfl ?_
  refine r_callI lkI_X3_92 9 20 rfl rfl (by decide) [] rfl rfl (Nat.le_of_ble_eq_true rfl) (Nat.le_of_ble_eq_true rfl) (e_J6_init hS (o1 := wnew_s) (k2 := ?_)) (fun _ _ h => h)
  show Rn G mX3_list 20 [(1, .int x2), (0, .ref a1)] [.ref w.2.1] (wset (wnew w (.inl (nJ6, [.int 0, .null, .int 0])) 3) w.2.1 (.inl (nJ6, [.int 0, .ref (κ 1), .int 0]))) _
  refine r_astore_n (lv' := [(2, .ref w.2.1), (1, .int x2), (0, .ref a1)]) 10 21 rfl rfl (Nat.le_of_ble_eq_true rfl) rfl ?_
  refine r_aload_n 11 22 2 rfl rfl rfl ?_
  refine r_bipush 12 24 rfl rfl db_41 ?_
  exact r_callV lkV_X3_45_X3 (C := RX3) (TT := TX3) (NN := 2) rfl (Lk.set_n (Lk.new_n o1 (by have := (o1.lt hwk); show a1 < w.2.1; omega)) (Nat.ne_of_lt (show a1 < w.2.1 from (by have := Lk.lt o1 hwk; omega)))) 13 27 rfl rfl (by decide) [.int 41] rfl rfl (Nat.le_of_ble_eq_true rfl) (Nat.le_of_ble_eq_true rfl) e2 (fun r w' h => Af.sub [2, 1, 0] rfl (k2 r w' h))
theorem e_X3_list_27 {G : Gm} {κ : Nat → Nat} {φ : Nat → Option Nat} (hS : GS G κ φ) {w : Wd} {Q : Rs → Wd → Prop} {a1 : Nat} {x2 : Int32} {a3 : Nat} {x4 : Int32} (k1 : ¬ x4 = 0 → Rn G mX3_list 36 [(0, .ref a1), (1, .int x2), (2, .ref a3), (3, .int 0)] [] w Q) (k2 : x4 = 0 → Rn G mX3_list 36 [(0, .ref a1), (1, .int x2), (2, .ref a3), (3, .int 1)] [] w Q) : Rn G mX3_list 27 [(0, .ref a1), (1, .int x2), (2, .ref a3)] [.int x4] w Q := by
  refine r_if_ne 14 30 34 rfl rfl rfl (fun c1 => ?_) (fun c1 => ?_)
  · refine r_iconst 17 35 rfl rfl di_0 ?_
    refine r_istore_n (lv' := [(3, .int 0), (0, .ref a1), (1, .int x2), (2, .ref a3)]) 18 36 rfl rfl (Nat.le_of_ble_eq_true rfl) rfl ?_
    exact r_sub [1, 2, 3, 0] rfl (k1 c1)
  · refine r_iconst 15 31 rfl rfl di_1 ?_
    refine r_goto 16 35 rfl rfl ?_
    refine r_istore_n (lv' := [(3, .int 1), (0, .ref a1), (1, .int x2), (2, .ref a3)]) 18 36 rfl rfl (Nat.le_of_ble_eq_true rfl) rfl ?_
    exact r_sub [1, 2, 3, 0] rfl (k2 c1)
theorem e_X3_list_36 {G : Gm} {κ : Nat → Nat} {φ : Nat → Option Nat} (hS : GS G κ φ) {w : Wd} {Q : Rs → Wd → Prop} {a1 : Nat} {x2 : Int32} {a3 : Nat} {x4 : Int32} {a5 : Nat} {m6 : Nat} {x7 : Int32} {a8 : Nat} {m9 : Nat} (o1 : Lk G w a1 (.inl (nX3, [.ref a5, .int (nI m6)]))) {Q2 : Rs → Wd → Prop} (e2 : x4 = 0 → Ev G mX3_take [.ref a1, .int 41] w Q2) (k2 : x4 = 0 → ∀ r w', Q2 r w' → Af G mX3_list 132 135 [(1, .int x2), (2, .ref a3)] [] r w' Q) (o3 : Lk G w a3 (.inl (nJ6, [.int x7, .ref a8, .int (nI m9)]))) (bd4 : m9 < 2 ^ 31) {Q5 : Rs → Wd → Prop} (e5 : ¬ x4 = 0 → 6 ≤ m9 → Ev G mX3_want [.ref a1, .int 0] w Q5) (k5 : ¬ x4 = 0 → 6 ≤ m9 → ∀ r w', Q5 r w' → Af G mX3_list 80 83 [(0, .ref a1), (1, .int x2), (2, .ref a3)] [] r w' Q) {Q6 : Rs → Wd → Prop} (e6 : ¬ x4 = 0 → ¬ 6 ≤ m9 → x2 = 0 → Ev G mX3_is [.ref a1, .int 35] w Q6) (k6 : ¬ x4 = 0 → ¬ 6 ≤ m9 → x2 = 0 → ∀ r w', Q6 r w' → Af G mX3_list 69 72 [(0, .ref a1), (1, .int x2), (2, .ref a3)] [.ref a1] r w' Q) {Q7 : Rs → Wd → Prop} (e7 : ¬ x4 = 0 → ¬ 6 ≤ m9 → ¬ x2 = 0 → Ev G mX3_is [.ref a1, .int 35] w Q7) (k7 : ¬ x4 = 0 → ¬ 6 ≤ m9 → ¬ x2 = 0 → ∀ r w', Q7 r w' → Af G mX3_list 57 60 [(0, .ref a1), (1, .int x2), (2, .ref a3)] [.ref a1] r w' Q) : Rn G mX3_list 36 [(0, .ref a1), (1, .int x2), (2, .ref a3), (3, .int x4)] [] w Q := by
  refine r_iload_n 19 37 3 rfl rfl rfl ?_
  refine r_if_eq 20 40 129 rfl rfl rfl (fun c1 => ?_) (fun c1 => ?_)
  · refine r_aload_n 64 130 0 rfl rfl rfl ?_
    refine r_bipush 65 132 rfl rfl db_41 ?_
    exact r_callV lkV_X3_62_X3 (C := RX3) (TT := TX3) (NN := 2) rfl o1 66 135 rfl rfl (by decide) [.int 41] rfl rfl (Nat.le_of_ble_eq_true rfl) (Nat.le_of_ble_eq_true rfl) (e2 c1) (fun r w' h => Af.sub [1, 2] rfl ((k2 c1) r w' h))
  · refine r_aload_n 21 41 0 rfl rfl rfl ?_
    refine r_aload_n 22 42 2 rfl rfl rfl ?_
    refine r_callV lkV_X3_93_J6 (C := RJ6) (TT := TJ6) (NN := 3) rfl o3 23 45 rfl rfl (by decide) [] rfl rfl (Nat.le_of_ble_eq_true rfl) (Nat.le_of_ble_eq_true rfl) (e_J6_size hS (m4 := m9) (o1 := o3) (k2 := ?_)) (fun _ _ h => h)
    show Rn G mX3_list 45 [(0, .ref a1), (1, .int x2), (2, .ref a3), (3, .int x4)] [.int (nI m9), .ref a1] w _
    refine r_bipush 24 47 rfl rfl db_6 ?_
    refine y_icmp_ge (a := m9) (b := 6) bd4 (by decide) 25 50 79 rfl rfl rfl (fun c2 => ?_) (fun c2 => ?_)
    · refine r_iconst 39 80 rfl rfl di_0 ?_
      exact r_callV lkV_X3_49_X3 (C := RX3) (TT := TX3) (NN := 2) rfl o1 40 83 rfl rfl (by decide) [.int 0] rfl rfl (Nat.le_of_ble_eq_true rfl) (Nat.le_of_ble_eq_true rfl) (e5 c1 c2) (fun r w' h => Af.sub [0, 1, 2] rfl ((k5 c1 c2) r w' h))
    · refine r_iload_n 26 51 1 rfl rfl rfl ?_
      refine r_if_eq 27 54 66 rfl rfl rfl (fun c3 => ?_) (fun c3 => ?_)
      · refine r_aload_n 33 67 0 rfl rfl rfl ?_
        refine r_bipush 34 69 rfl rfl db_35 ?_
        exact r_callV lkV_X3_45_X3 (C := RX3) (TT := TX3) (NN := 2) rfl o1 35 72 rfl rfl (by decide) [.int 35] rfl rfl (Nat.le_of_ble_eq_true rfl) (Nat.le_of_ble_eq_true rfl) (e6 c1 c2 c3) (fun r w' h => Af.sub [0, 1, 2] rfl ((k6 c1 c2 c3) r w' h))
      · refine r_aload_n 28 55 0 rfl rfl rfl ?_
        refine r_bipush 29 57 rfl rfl db_35 ?_
        exact r_callV lkV_X3_45_X3 (C := RX3) (TT := TX3) (NN := 2) rfl o1 30 60 rfl rfl (by decide) [.int 35] rfl rfl (Nat.le_of_ble_eq_true rfl) (Nat.le_of_ble_eq_true rfl) (e7 c1 c2 c3) (fun r w' h => Af.sub [0, 1, 2] rfl ((k7 c1 c2 c3) r w' h))
theorem e_X3_list_135 {G : Gm} {κ : Nat → Nat} {φ : Nat → Option Nat} (hS : GS G κ φ) {w : Wd} {Q : Rs → Wd → Prop} {x1 : Int32} {a2 : Nat} {x3 : Int32} {a4 : Nat} {m5 : Nat} (o1 : Lk G w a2 (.inl (nJ6, [.int x3, .ref a4, .int (nI m5)]))) (b2 : m5 ≤ 100000000) (hg3 : (12 + m5) ≤ w.2.2) (k4 : Rn G mX3_list 146 [(1, .int x1), (2, .ref a2), (4, .ref w.2.1), (5, .int 0)] [] (wnew w (arI .int m5 (fun _ => 0)) m5) Q) : Rn G mX3_list 135 [(1, .int x1), (2, .ref a2)] [] w Q := by
  refine r_aload_n 67 136 1 rfl rfl rfl ?_
  refine r_callV lkV_X3_93_J6 (C := RJ6) (TT := TJ6) (NN := 3) rfl o1 68 139 rfl rfl (by decide) [] rfl rfl (Nat.le_of_ble_eq_true rfl) (Nat.le_of_ble_eq_true rfl) (e_J6_size hS (m4 := m5) (o1 := o1) (k2 := ?_)) (fun _ _ h => h)
  show Rn G mX3_list 139 [(1, .int x1), (2, .ref a2)] [.int (nI m5)] w _
  refine y_newI (n := m5) 69 141 rfl rfl b2 (by have := hg3; show 12 + m5 ≤ w.2.2; omega) ?_
  show Rn G mX3_list 141 [(1, .int x1), (2, .ref a2)] [.ref w.2.1] (wnew w (arI .int m5 (fun _ => 0)) m5) _
  refine r_astore (lv' := [(4, .ref w.2.1), (1, .int x1), (2, .ref a2)]) 70 143 rfl rfl (Nat.le_of_ble_eq_true rfl) rfl ?_
  refine r_iconst 71 144 rfl rfl di_0 ?_
  refine r_istore (lv' := [(5, .int 0), (4, .ref w.2.1), (1, .int x1), (2, .ref a2)]) 72 146 rfl rfl (Nat.le_of_ble_eq_true rfl) rfl ?_
  exact r_sub [2, 3, 1, 0] rfl k4
theorem e_X3_list_83 {G : Gm} {κ : Nat → Nat} {φ : Nat → Option Nat} (hS : GS G κ φ) {w : Wd} {Q : Rs → Wd → Prop} {a1 : Nat} {x2 : Int32} {a3 : Nat} {a4 : Nat} {m5 : Nat} (o1 : Lk G w a1 (.inl (nX3, [.ref a4, .int (nI m5)]))) {Q2 : Rs → Wd → Prop} (e2 : x2 = 0 → Ev G mX3_number [.ref a1, .int 9, .int 1] w Q2) (k2 : x2 = 0 → ∀ r w', Q2 r w' → Af G mX3_list 99 102 [(0, .ref a1), (1, .int x2), (2, .ref a3)] [.ref a3] r w' Q) {Q3 : Rs → Wd → Prop} (e3 : ¬ x2 = 0 → Ev G mX3_line [.ref a1] w Q3) (k3 : ¬ x2 = 0 → ∀ r w', Q3 r w' → Af G mX3_list 89 92 [(0, .ref a1), (1, .int x2), (2, .ref a3)] [.ref a3] r w' Q) : Rn G mX3_list 83 [(0, .ref a1), (1, .int x2), (2, .ref a3)] [] w Q := by
  refine r_aload_n 41 84 2 rfl rfl rfl ?_
  refine r_iload_n 42 85 1 rfl rfl rfl ?_
  refine r_if_eq 43 88 95 rfl rfl rfl (fun c1 => ?_) (fun c1 => ?_)
  · refine r_aload_n 47 96 0 rfl rfl rfl ?_
    refine r_bipush 48 98 rfl rfl db_9 ?_
    refine r_iconst 49 99 rfl rfl di_1 ?_
    exact r_callV lkV_X3_66_X3 (C := RX3) (TT := TX3) (NN := 2) rfl o1 50 102 rfl rfl (by decide) [.int 9, .int 1] rfl rfl (Nat.le_of_ble_eq_true rfl) (Nat.le_of_ble_eq_true rfl) (e2 c1) (fun r w' h => Af.sub [0, 1, 2] rfl ((k2 c1) r w' h))
  · refine r_aload_n 44 89 0 rfl rfl rfl ?_
    exact r_callV lkV_X3_96_X3 (C := RX3) (TT := TX3) (NN := 2) rfl o1 45 92 rfl rfl (by decide) [] rfl rfl (Nat.le_of_ble_eq_true rfl) (Nat.le_of_ble_eq_true rfl) (e3 c1) (fun r w' h => Af.sub [0, 1, 2] rfl ((k3 c1) r w' h))
theorem e_X3_list_72 {G : Gm} {κ : Nat → Nat} {φ : Nat → Option Nat} (hS : GS G κ φ) {w : Wd} {Q : Rs → Wd → Prop} {k_a1 : Nat} {x1 : Int32} {a2 : Nat} {x3 : Int32} {a4 : Nat} {m5 : Nat} (o1 : Lk G w k_a1 (.inl (nX3, [.ref a4, .int (nI m5)]))) {Q2 : Rs → Wd → Prop} (e2 : ¬ x3 = 0 → Ev G mX3_want [.ref k_a1, .int 0] w Q2) (k2 : ¬ x3 = 0 → ∀ r w', Q2 r w' → Af G mX3_list 80 83 [(0, .ref k_a1), (1, .int x1), (2, .ref a2)] [] r w' Q) {Q3 : Rs → Wd → Prop} (e3 : x3 = 0 → Ev G mX3_want [.ref k_a1, .int 1] w Q3) (k3 : x3 = 0 → ∀ r w', Q3 r w' → Af G mX3_list 80 83 [(0, .ref k_a1), (1, .int x1), (2, .ref a2)] [] r w' Q) : Rn G mX3_list 72 [(0, .ref k_a1), (1, .int x1), (2, .ref a2)] [.int x3, .ref k_a1] w Q := by
  refine r_if_ne 36 75 79 rfl rfl rfl (fun c1 => ?_) (fun c1 => ?_)
  · refine r_iconst 39 80 rfl rfl di_0 ?_
    exact r_callV lkV_X3_49_X3 (C := RX3) (TT := TX3) (NN := 2) rfl o1 40 83 rfl rfl (by decide) [.int 0] rfl rfl (Nat.le_of_ble_eq_true rfl) (Nat.le_of_ble_eq_true rfl) (e2 c1) (fun r w' h => Af.sub [0, 1, 2] rfl ((k2 c1) r w' h))
  · refine r_iconst 37 76 rfl rfl di_1 ?_
    refine r_goto 38 80 rfl rfl ?_
    exact r_callV lkV_X3_49_X3 (C := RX3) (TT := TX3) (NN := 2) rfl o1 40 83 rfl rfl (by decide) [.int 1] rfl rfl (Nat.le_of_ble_eq_true rfl) (Nat.le_of_ble_eq_true rfl) (e3 c1) (fun r w' h => Af.sub [0, 1, 2] rfl ((k3 c1) r w' h))
theorem e_X3_list_60 {G : Gm} {κ : Nat → Nat} {φ : Nat → Option Nat} (hS : GS G κ φ) {w : Wd} {Q : Rs → Wd → Prop} {k_a1 : Nat} {x1 : Int32} {a2 : Nat} {x3 : Int32} {a4 : Nat} {m5 : Nat} (o1 : Lk G w k_a1 (.inl (nX3, [.ref a4, .int (nI m5)]))) {Q2 : Rs → Wd → Prop} (e2 : x3 = 0 → Ev G mX3_want [.ref k_a1, .int 0] w Q2) (k2 : x3 = 0 → ∀ r w', Q2 r w' → Af G mX3_list 80 83 [(0, .ref k_a1), (1, .int x1), (2, .ref a2)] [] r w' Q) {Q3 : Rs → Wd → Prop} (e3 : ¬ x3 = 0 → Ev G mX3_want [.ref k_a1, .int 1] w Q3) (k3 : ¬ x3 = 0 → ∀ r w', Q3 r w' → Af G mX3_list 80 83 [(0, .ref k_a1), (1, .int x1), (2, .ref a2)] [] r w' Q) : Rn G mX3_list 60 [(0, .ref k_a1), (1, .int x1), (2, .ref a2)] [.int x3, .ref k_a1] w Q := by
  refine r_if_eq 31 63 79 rfl rfl rfl (fun c1 => ?_) (fun c1 => ?_)
  · refine r_iconst 39 80 rfl rfl di_0 ?_
    exact r_callV lkV_X3_49_X3 (C := RX3) (TT := TX3) (NN := 2) rfl o1 40 83 rfl rfl (by decide) [.int 0] rfl rfl (Nat.le_of_ble_eq_true rfl) (Nat.le_of_ble_eq_true rfl) (e2 c1) (fun r w' h => Af.sub [0, 1, 2] rfl ((k2 c1) r w' h))
  · refine r_goto 32 75 rfl rfl ?_
    refine r_iconst 37 76 rfl rfl di_1 ?_
    refine r_goto 38 80 rfl rfl ?_
    exact r_callV lkV_X3_49_X3 (C := RX3) (TT := TX3) (NN := 2) rfl o1 40 83 rfl rfl (by decide) [.int 1] rfl rfl (Nat.le_of_ble_eq_true rfl) (Nat.le_of_ble_eq_true rfl) (e3 c1) (fun r w' h => Af.sub [0, 1, 2] rfl ((k3 c1) r w' h))
theorem e_X3_list_146 {G : Gm} {κ : Nat → Nat} {φ : Nat → Option Nat} (hS : GS G κ φ) {w : Wd} {Q : Rs → Wd → Prop} {x1 : Int32} {a2 : Nat} {a3 : Nat} {m4 : Nat} {n5 : Nat} {g6 : Nat → Int32} {x7 : Int32} {a8 : Nat} {m9 : Nat} {n10 : Nat} {g11 : Nat → Option Nat} {a12 : Nat} {x13 : Int32} (o1 : w.1 a3 = some (arI .int n5 g6)) (bd2 : m4 < 2 ^ 31) (bd3 : n5 < 2 ^ 31) (hg : 15 ≤ w.2.2) (k4 : n5 ≤ m4 → x1 = 0 → Q (.inl (some (.ref w.2.1))) (wset (wnew w (.inl (nX8, [.null, .null, .null])) 3) w.2.1 (.inl (nX8, [.ref (κ 13), .ref (κ 28), .ref a3])))) (k5 : n5 ≤ m4 → ¬ x1 = 0 → Q (.inl (some (.ref w.2.1))) (wset (wnew w (.inl (nX8, [.null, .null, .null])) 3) w.2.1 (.inl (nX8, [.ref (κ 14), .ref (κ 28), .ref a3])))) (o6 : Lk G w a2 (.inl (nJ6, [.int x7, .ref a8, .int (nI m9)]))) (o7 : Lk G w a8 (arR "java/lang/Object" n10 g11)) (b8 : ¬ n5 ≤ m4 → m9 < 2 ^ 31) (f9 : ¬ n5 ≤ m4 → m4 < m9) (b10 : ¬ n5 ≤ m4 → m4 < n10) (b11 : ¬ n5 ≤ m4 → n10 < 2 ^ 31) (q12 : ¬ n5 ≤ m4 → (g11 m4) = some a12) (o13 : Lk G w a12 (.inl (nJ20, [.int x13]))) (k14 : ¬ n5 ≤ m4 → Rn G mX3_list 146 [(1, .int x1), (2, .ref a2), (4, .ref a3), (5, .int (nI (m4 + 1)))] [] (wset w a3 (arI .int n5 (upF g6 m4 x13))) Q) : Rn G mX3_list 146 [(1, .int x1), (2, .ref a2), (4, .ref a3), (5, .int (nI m4))] [] w Q := by
  refine r_iload 73 148 3 rfl rfl rfl ?_
  refine r_aload 74 150 2 rfl rfl rfl ?_
  refine r_alen 75 151 rfl rfl (Or.inl o1) ?_
  refine y_icmp_ge (a := m4) (b := n5) bd2 bd3 76 154 177 rfl rfl rfl (fun c1 => ?_) (fun c1 => ?_)
  · refine r_new (fs := [.null, .null, .null]) (ty := tyX8) (T := TX8) (C := RX8) (N := 3) (ci := nX8) (n := 3) 87 180 rfl rfl rfl in_X8 tyX8_ok q1235 q1236 q99 rfl (by decide) (by show 12 + 3 ≤ w.2.2; omega) ?_
    show Rn G mX3_list 180 [(1, .int x1), (2, .ref a2), (4, .ref a3), (5, .int (nI m4))] [.ref w.2.1] (wnew w (.inl (nX8, [.null, .null, .null])) 3) _
    refine r_dup 88 181 rfl rfl rfl ?_
    refine r_iload_n 89 182 0 rfl rfl rfl ?_
    refine r_if_eq 90 185 191 rfl rfl rfl (fun c2 => ?_) (fun c2 => ?_)
    · refine r_gets (v := .ref (κ 13)) (hS 13).1 q1301 93 194 rfl rfl ?_
      refine r_ldcS (tx := "") (a := κ 28) (hS 28).1 94 196 rfl rfl ?_
      refine r_aload 95 198 2 rfl rfl rfl ?_
      refine r_callIN lkIN_X3_87 96 201 rfl rfl (by decide) [.ref (κ 13), .ref (κ 28), .ref a3] rfl rfl (Nat.le_of_ble_eq_true rfl) (Nat.le_of_ble_eq_true rfl) (e_X8_init hS (o1 := wnew_s) (k2 := ?_)) (fun _ _ h => h)
      show Rn G mX3_list 201 [(1, .int x1), (2, .ref a2), (4, .ref a3), (5, .int (nI m4))] [.ref w.2.1] (wset (wnew w (.inl (nX8, [.null, .null, .null])) 3) w.2.1 (.inl (nX8, [.ref (κ 13), .ref (κ 28), .ref a3]))) _
      exact r_aret 97 rfl rfl (Or.inl ⟨_, rfl⟩) (Or.inr ⟨_, rfl⟩) (k4 c1 c2)
    · refine r_gets (v := .ref (κ 14)) (hS 14).1 q1299 91 188 rfl rfl ?_
      refine r_goto 92 194 rfl rfl ?_
      refine r_ldcS (tx := "") (a := κ 28) (hS 28).1 94 196 rfl rfl ?_
      refine r_aload 95 198 2 rfl rfl rfl ?_
      refine r_callIN lkIN_X3_87 96 201 rfl rfl (by decide) [.ref (κ 14), .ref (κ 28), .ref a3] rfl rfl (Nat.le_of_ble_eq_true rfl) (Nat.le_of_ble_eq_true rfl) (e_X8_init hS (o1 := wnew_s) (k2 := ?_)) (fun _ _ h => h)
      show Rn G mX3_list 201 [(1, .int x1), (2, .ref a2), (4, .ref a3), (5, .int (nI m4))] [.ref w.2.1] (wset (wnew w (.inl (nX8, [.null, .null, .null])) 3) w.2.1 (.inl (nX8, [.ref (κ 14), .ref (κ 28), .ref a3]))) _
      exact r_aret 97 rfl rfl (Or.inl ⟨_, rfl⟩) (Or.inr ⟨_, rfl⟩) (k5 c1 c2)
  · refine r_aload 77 156 2 rfl rfl rfl ?_
    refine r_iload 78 158 3 rfl rfl rfl ?_
    refine r_aload_n 79 159 1 rfl rfl rfl ?_
    refine r_iload 80 161 3 rfl rfl rfl ?_
    refine r_callV lkV_X3_109_J6 (C := RJ6) (TT := TJ6) (NN := 3) rfl o6 81 164 rfl rfl (by decide) [.int (nI m4)] rfl rfl (Nat.le_of_ble_eq_true rfl) (Nat.le_of_ble_eq_true rfl) (e_J6_get hS (a8 := a12) (m5 := m9) (m2 := m4) (o1 := o6) (b2 := (by omega)) (b3 := (b8 c1)) (f4 := (f9 c1)) (o5 := o7) (b6 := (b10 c1)) (b7 := (b11 c1)) (q8 := (q12 c1)) (k9 := ?_)) (fun _ _ h => h)
    show Rn G mX3_list 164 [(1, .int x1), (2, .ref a2), (4, .ref a3), (5, .int (nI m4))] [.ref a12, .int (nI m4), .ref a3] w _
    refine r_castS (C := RJ20) (TT := TJ20) (NN := 1) rfl q1294 82 167 rfl rfl o13 ?_
    refine r_callV lkV_X3_113_J20 (C := RJ20) (TT := TJ20) (NN := 1) rfl o13 83 170 rfl rfl (by decide) [] rfl rfl (Nat.le_of_ble_eq_true rfl) (Nat.le_of_ble_eq_true rfl) (e_J20_intValue hS (o1 := o13) (k2 := ?_)) (fun _ _ h => h)
    show Rn G mX3_list 170 [(1, .int x1), (2, .ref a2), (4, .ref a3), (5, .int (nI m4))] [.int x13, .int (nI m4), .ref a3] w _
    refine y_iast (i := m4) 84 171 rfl rfl o1 (by omega) (by omega) ?_
    show Rn G mX3_list 171 [(1, .int x1), (2, .ref a2), (4, .ref a3), (5, .int (nI m4))] [] (wset w a3 (arI .int n5 (upF g6 m4 x13))) _
    refine r_iinc (v := (nI (m4 + 1))) (lv' := [(5, .int (nI (m4 + 1))), (1, .int x1), (2, .ref a2), (4, .ref a3)]) 85 174 3 rfl rfl rfl (by rw [di_1]; exact nI_add _ _) (Nat.le_of_ble_eq_true rfl) rfl ?_
    refine r_goto 86 146 rfl rfl ?_
    exact r_sub [1, 2, 3, 0] rfl (k14 c1)
theorem e_X3_list_102 {G : Gm} {κ : Nat → Nat} {φ : Nat → Option Nat} (hS : GS G κ φ) {w : Wd} {Q : Rs → Wd → Prop} {a1 : Nat} {x2 : Int32} {k_a3 : Nat} {x3 : Int32} {Q1 : Rs → Wd → Prop} (e1 : Ev G mJ20_valueOf [.int x3] w Q1) (k1 : ∀ r w', Q1 r w' → Af G mX3_list 102 105 [(0, .ref a1), (1, .int x2), (2, .ref k_a3)] [.ref k_a3] r w' Q) : Rn G mX3_list 102 [(0, .ref a1), (1, .int x2), (2, .ref k_a3)] [.int x3, .ref k_a3] w Q := by
  exact r_callS lkS_X3_99 51 105 rfl rfl (by decide) [.int x3] rfl rfl (Nat.le_of_ble_eq_true rfl) (Nat.le_of_ble_eq_true rfl) e1 (fun r w' h => Af.sub [0, 1, 2] rfl (k1 r w' h))
theorem e_X3_list_92 {G : Gm} {κ : Nat → Nat} {φ : Nat → Option Nat} (hS : GS G κ φ) {w : Wd} {Q : Rs → Wd → Prop} {a1 : Nat} {x2 : Int32} {k_a3 : Nat} {x3 : Int32} {Q1 : Rs → Wd → Prop} (e1 : Ev G mJ20_valueOf [.int x3] w Q1) (k1 : ∀ r w', Q1 r w' → Af G mX3_list 102 105 [(0, .ref a1), (1, .int x2), (2, .ref k_a3)] [.ref k_a3] r w' Q) : Rn G mX3_list 92 [(0, .ref a1), (1, .int x2), (2, .ref k_a3)] [.int x3, .ref k_a3] w Q := by
  refine r_goto 46 102 rfl rfl ?_
  exact r_callS lkS_X3_99 51 105 rfl rfl (by decide) [.int x3] rfl rfl (Nat.le_of_ble_eq_true rfl) (Nat.le_of_ble_eq_true rfl) e1 (fun r w' h => Af.sub [0, 1, 2] rfl (k1 r w' h))
theorem e_X3_list_105 {G : Gm} {κ : Nat → Nat} {φ : Nat → Option Nat} (hS : GS G κ φ) {w : Wd} {Q : Rs → Wd → Prop} {a1 : Nat} {x2 : Int32} {k_k_a3 : Nat} {a3 : Nat} {x4 : Int32} {a5 : Nat} {m6 : Nat} (o1 : Lk G w k_k_a3 (.inl (nJ6, [.int x4, .ref a5, .int (nI m6)]))) {Q2 : Rs → Wd → Prop} (e2 : Ev G mJ6_add [.ref k_k_a3, .ref a3] w Q2) (k2 : ∀ r w', Q2 r w' → Af G mX3_list 105 108 [(0, .ref a1), (1, .int x2), (2, .ref k_k_a3)] [] r w' Q) : Rn G mX3_list 105 [(0, .ref a1), (1, .int x2), (2, .ref k_k_a3)] [.ref a3, .ref k_k_a3] w Q := by
  exact r_callV lkV_X3_105_J6 (C := RJ6) (TT := TJ6) (NN := 3) rfl o1 52 108 rfl rfl (by decide) [.ref a3] rfl rfl (Nat.le_of_ble_eq_true rfl) (Nat.le_of_ble_eq_true rfl) e2 (fun r w' h => Af.sub [0, 1, 2] rfl (k2 r w' h))
theorem e_X3_list_108 {G : Gm} {κ : Nat → Nat} {φ : Nat → Option Nat} (hS : GS G κ φ) {w : Wd} {Q : Rs → Wd → Prop} {a1 : Nat} {x2 : Int32} {a3 : Nat} {x4 : Int32} {a5 : Nat} {m6 : Nat} (o1 : Lk G w a1 (.inl (nX3, [.ref a5, .int (nI m6)]))) {Q2 : Rs → Wd → Prop} (e2 : Ev G mX3_is [.ref a1, .int 44] w Q2) (k2 : ∀ r w', Q2 r w' → Af G mX3_list 112 115 [(0, .ref a1), (1, .int x2), (2, .ref a3)] [] r w' Q) : Rn G mX3_list 108 [(0, .ref a1), (1, .int x2), (2, .ref a3)] [.int x4] w Q := by
  refine r_pop 53 109 rfl rfl rfl ?_
  refine r_aload_n 54 110 0 rfl rfl rfl ?_
  refine r_bipush 55 112 rfl rfl db_44 ?_
  exact r_callV lkV_X3_45_X3 (C := RX3) (TT := TX3) (NN := 2) rfl o1 56 115 rfl rfl (by decide) [.int 44] rfl rfl (Nat.le_of_ble_eq_true rfl) (Nat.le_of_ble_eq_true rfl) e2 (fun r w' h => Af.sub [0, 1, 2] rfl (k2 r w' h))
theorem e_X3_list_115 {G : Gm} {κ : Nat → Nat} {φ : Nat → Option Nat} (hS : GS G κ φ) {w : Wd} {Q : Rs → Wd → Prop} {a1 : Nat} {x2 : Int32} {a3 : Nat} {x4 : Int32} {a5 : Nat} {m6 : Nat} (k1 : x4 = 0 → Rn G mX3_list 36 [(0, .ref a1), (1, .int x2), (2, .ref a3), (3, .int x4)] [] w Q) (o2 : Lk G w a1 (.inl (nX3, [.ref a5, .int (nI m6)]))) {Q3 : Rs → Wd → Prop} (e3 : ¬ x4 = 0 → Ev G mX3_take [.ref a1, .int 44] w Q3) (k3 : ¬ x4 = 0 → ∀ r w', Q3 r w' → Af G mX3_list 123 126 [(0, .ref a1), (1, .int x2), (2, .ref a3), (3, .int x4)] [] r w' Q) : Rn G mX3_list 115 [(0, .ref a1), (1, .int x2), (2, .ref a3)] [.int x4] w Q := by
  refine r_istore_n (lv' := [(3, .int x4), (0, .ref a1), (1, .int x2), (2, .ref a3)]) 57 116 rfl rfl (Nat.le_of_ble_eq_true rfl) rfl ?_
  refine r_iload_n 58 117 0 rfl rfl rfl ?_
  refine r_if_eq 59 120 36 rfl rfl rfl (fun c1 => ?_) (fun c1 => ?_)
  · exact r_sub [1, 2, 3, 0] rfl (k1 c1)
  · refine r_aload_n 60 121 1 rfl rfl rfl ?_
    refine r_bipush 61 123 rfl rfl db_44 ?_
    exact r_callV lkV_X3_62_X3 (C := RX3) (TT := TX3) (NN := 2) rfl o2 62 126 rfl rfl (by decide) [.int 44] rfl rfl (Nat.le_of_ble_eq_true rfl) (Nat.le_of_ble_eq_true rfl) (e3 c1) (fun r w' h => Af.sub [1, 2, 3, 0] rfl ((k3 c1) r w' h))
theorem e_X3_list_126 {G : Gm} {κ : Nat → Nat} {φ : Nat → Option Nat} (hS : GS G κ φ) {w : Wd} {Q : Rs → Wd → Prop} {a1 : Nat} {x2 : Int32} {a3 : Nat} {x4 : Int32} (k1 : Rn G mX3_list 36 [(0, .ref a1), (1, .int x2), (2, .ref a3), (3, .int x4)] [] w Q) : Rn G mX3_list 126 [(0, .ref a1), (1, .int x2), (2, .ref a3), (3, .int x4)] [] w Q := by
  refine r_goto 63 36 rfl rfl ?_
  exact k1
theorem e_X3_readLine {G : Gm} {κ : Nat → Nat} {φ : Nat → Option Nat} (hS : GS G κ φ) {w : Wd} {Q : Rs → Wd → Prop} {a1 : Nat} {a2 : Nat} {a3 : Nat} {m4 : Nat} (o1 : Lk G w a1 (.inl (nX3, [.ref a3, .int (nI m4)]))) {Q2 : Rs → Wd → Prop} (e2 : Ev G mX3_is [.ref a1, .int 35] w Q2) (k2 : ∀ r w', Q2 r w' → Af G mX3_readLine 4 7 [(0, .ref a1), (1, .ref a2)] [.ref a1] r w' Q) : Ev G mX3_readLine [.ref a1, .ref a2] w Q := by
  show Rn G mX3_readLine 0 [(0, .ref a1), (1, .ref a2)] [] w Q
  refine r_aload_n 0 1 0 rfl rfl rfl ?_
  refine r_aload_n 1 2 0 rfl rfl rfl ?_
  refine r_bipush 2 4 rfl rfl db_35 ?_
  exact r_callV lkV_X3_45_X3 (C := RX3) (TT := TX3) (NN := 2) rfl o1 3 7 rfl rfl (by decide) [.int 35] rfl rfl (Nat.le_of_ble_eq_true rfl) (Nat.le_of_ble_eq_true rfl) e2 (fun r w' h => Af.sub [0, 1] rfl (k2 r w' h))
theorem e_X3_readLine_7 {G : Gm} {κ : Nat → Nat} {φ : Nat → Option Nat} (hS : GS G κ φ) {w : Wd} {Q : Rs → Wd → Prop} {k_a1 : Nat} {a1 : Nat} {x2 : Int32} {a3 : Nat} {m4 : Nat} {p5 : Option Nat} {p6 : Option Nat} {p7 : Option Nat} {m8 : Nat} {x9 : Int32} {p10 : Option Nat} {p11 : Option Nat} {p12 : Option Nat} (o1 : Lk G w k_a1 (.inl (nX3, [.ref a3, .int (nI m4)]))) {Q2 : Rs → Wd → Prop} (e2 : x2 = 0 → Ev G mX3_want [.ref k_a1, .int 0] w Q2) (k2 : x2 = 0 → ∀ r w', Q2 r w' → Af G mX3_readLine 24 27 [(0, .ref k_a1), (1, .ref a1)] [] r w' Q) (o3 : Lk G w a1 (.inl (nJ8, [va_rf p5, va_rf p6, .null, va_rf p7, .int (nI m8), .int x9, va_rf p10, va_rf p11, va_rf p12]))) (bd4 : m8 < 2 ^ 31) {Q5 : Rs → Wd → Prop} (e5 : ¬ x2 = 0 → 40 ≤ m8 → Ev G mX3_want [.ref k_a1, .int 0] w Q5) (k5 : ¬ x2 = 0 → 40 ≤ m8 → ∀ r w', Q5 r w' → Af G mX3_readLine 24 27 [(0, .ref k_a1), (1, .ref a1)] [] r w' Q) {Q6 : Rs → Wd → Prop} (e6 : ¬ x2 = 0 → ¬ 40 ≤ m8 → Ev G mX3_want [.ref k_a1, .int 1] w Q6) (k6 : ¬ x2 = 0 → ¬ 40 ≤ m8 → ∀ r w', Q6 r w' → Af G mX3_readLine 24 27 [(0, .ref k_a1), (1, .ref a1)] [] r w' Q) : Rn G mX3_readLine 7 [(0, .ref k_a1), (1, .ref a1)] [.int x2, .ref k_a1] w Q := by
  refine r_if_eq 4 10 23 rfl rfl rfl (fun c1 => ?_) (fun c1 => ?_)
  · refine r_iconst 11 24 rfl rfl di_0 ?_
    exact r_callV lkV_X3_49_X3 (C := RX3) (TT := TX3) (NN := 2) rfl o1 12 27 rfl rfl (by decide) [.int 0] rfl rfl (Nat.le_of_ble_eq_true rfl) (Nat.le_of_ble_eq_true rfl) (e2 c1) (fun r w' h => Af.sub [0, 1] rfl ((k2 c1) r w' h))
  · refine r_aload_n 5 11 1 rfl rfl rfl ?_
    refine r_callV lkV_X3_149_J8 (C := RJ8) (TT := TJ8) (NN := 9) rfl o3 6 14 rfl rfl (by decide) [] rfl rfl (Nat.le_of_ble_eq_true rfl) (Nat.le_of_ble_eq_true rfl) (e_J8_size hS (p9 := p12) (p8 := p11) (p7 := p10) (m5 := m8) (p4 := p7) (p3 := p6) (p2 := p5) (o1 := o3) (k2 := ?_)) (fun _ _ h => h)
    show Rn G mX3_readLine 14 [(0, .ref k_a1), (1, .ref a1)] [.int (nI m8), .ref k_a1] w _
    refine r_bipush 7 16 rfl rfl db_40 ?_
    refine y_icmp_ge (a := m8) (b := 40) bd4 (by decide) 8 19 23 rfl rfl rfl (fun c2 => ?_) (fun c2 => ?_)
    · refine r_iconst 11 24 rfl rfl di_0 ?_
      exact r_callV lkV_X3_49_X3 (C := RX3) (TT := TX3) (NN := 2) rfl o1 12 27 rfl rfl (by decide) [.int 0] rfl rfl (Nat.le_of_ble_eq_true rfl) (Nat.le_of_ble_eq_true rfl) (e5 c1 c2) (fun r w' h => Af.sub [0, 1] rfl ((k5 c1 c2) r w' h))
    · refine r_iconst 9 20 rfl rfl di_1 ?_
      refine r_goto 10 24 rfl rfl ?_
      exact r_callV lkV_X3_49_X3 (C := RX3) (TT := TX3) (NN := 2) rfl o1 12 27 rfl rfl (by decide) [.int 1] rfl rfl (Nat.le_of_ble_eq_true rfl) (Nat.le_of_ble_eq_true rfl) (e6 c1 c2) (fun r w' h => Af.sub [0, 1] rfl ((k6 c1 c2) r w' h))
theorem e_X3_readLine_27 {G : Gm} {κ : Nat → Nat} {φ : Nat → Option Nat} (hS : GS G κ φ) {w : Wd} {Q : Rs → Wd → Prop} {a1 : Nat} {a2 : Nat} {a3 : Nat} {m4 : Nat} (o1 : Lk G w a1 (.inl (nX3, [.ref a3, .int (nI m4)]))) {Q2 : Rs → Wd → Prop} (e2 : Ev G mX3_take [.ref a1, .int 35] w Q2) (k2 : ∀ r w', Q2 r w' → Af G mX3_readLine 30 33 [(0, .ref a1), (1, .ref a2)] [] r w' Q) : Rn G mX3_readLine 27 [(0, .ref a1), (1, .ref a2)] [] w Q := by
  refine r_aload_n 13 28 0 rfl rfl rfl ?_
  refine r_bipush 14 30 rfl rfl db_35 ?_
  exact r_callV lkV_X3_62_X3 (C := RX3) (TT := TX3) (NN := 2) rfl o1 15 33 rfl rfl (by decide) [.int 35] rfl rfl (Nat.le_of_ble_eq_true rfl) (Nat.le_of_ble_eq_true rfl) e2 (fun r w' h => Af.sub [0, 1] rfl (k2 r w' h))
theorem e_X3_readLine_33 {G : Gm} {κ : Nat → Nat} {φ : Nat → Option Nat} (hS : GS G κ φ) {w : Wd} {Q : Rs → Wd → Prop} {a1 : Nat} {a2 : Nat} {a3 : Nat} {m4 : Nat} (o1 : Lk G w a1 (.inl (nX3, [.ref a3, .int (nI m4)]))) {Q2 : Rs → Wd → Prop} (e2 : Ev G mX3_skip [.ref a1] w Q2) (k2 : ∀ r w', Q2 r w' → Af G mX3_readLine 34 37 [(0, .ref a1), (1, .ref a2)] [] r w' Q) : Rn G mX3_readLine 33 [(0, .ref a1), (1, .ref a2)] [] w Q := by
  refine r_aload_n 16 34 0 rfl rfl rfl ?_
  exact r_callV lkV_X3_29_X3 (C := RX3) (TT := TX3) (NN := 2) rfl o1 17 37 rfl rfl (by decide) [] rfl rfl (Nat.le_of_ble_eq_true rfl) (Nat.le_of_ble_eq_true rfl) e2 (fun r w' h => Af.sub [0, 1] rfl (k2 r w' h))
theorem e_X3_readLine_37 {G : Gm} {κ : Nat → Nat} {φ : Nat → Option Nat} (hS : GS G κ φ) {w : Wd} {Q : Rs → Wd → Prop} {a1 : Nat} {a2 : Nat} {a3 : Nat} {m4 : Nat} (o1 : Lk G w a1 (.inl (nX3, [.ref a3, .int (nI m4)]))) {Q2 : Rs → Wd → Prop} (e2 : Ev G mX3_number [.ref a1, .int 3, .int 0] w Q2) (k2 : ∀ r w', Q2 r w' → Af G mX3_readLine 45 48 [(0, .ref a1), (1, .ref a2), (2, .int (nI m4))] [] r w' Q) : Rn G mX3_readLine 37 [(0, .ref a1), (1, .ref a2)] [] w Q := by
  refine r_aload_n 18 38 0 rfl rfl rfl ?_
  refine r_get (v := .int (nI m4)) fl_X3_15_X3 19 41 rfl rfl o1 rfl ?_
  refine r_istore_n (lv' := [(2, .int (nI m4)), (0, .ref a1), (1, .ref a2)]) 20 42 rfl rfl (Nat.le_of_ble_eq_true rfl) rfl ?_
  refine r_aload_n 21 43 1 rfl rfl rfl ?_
  refine r_iconst 22 44 rfl rfl di_3 ?_
  refine r_iconst 23 45 rfl rfl di_0 ?_
  exact r_callV lkV_X3_66_X3 (C := RX3) (TT := TX3) (NN := 2) rfl o1 24 48 rfl rfl (by decide) [.int 3, .int 0] rfl rfl (Nat.le_of_ble_eq_true rfl) (Nat.le_of_ble_eq_true rfl) e2 (fun r w' h => Af.sub [1, 2, 0] rfl (k2 r w' h))
theorem e_X3_readLine_48 {G : Gm} {κ : Nat → Nat} {φ : Nat → Option Nat} (hS : GS G κ φ) {w : Wd} {Q : Rs → Wd → Prop} {a1 : Nat} {a2 : Nat} {m3 : Nat} {m4 : Nat} {a5 : Nat} {m6 : Nat} (bd1 : m4 < 2 ^ 31) (o2 : Lk G w a1 (.inl (nX3, [.ref a5, .int (nI m6)]))) {Q3 : Rs → Wd → Prop} (e3 : m4 ≤ 0 → Ev G mX3_want_2 [.ref a1, .int 0, .int (nI m3)] w Q3) (k3 : m4 ≤ 0 → ∀ r w', Q3 r w' → Af G mX3_readLine 71 74 [(0, .ref a1), (3, .int (nI m4))] [] r w' Q) {Q4 : Rs → Wd → Prop} (e4 : ¬ m4 ≤ 0 → Ev G mJ20_valueOf [.int (nI m4)] w Q4) (k4 : ¬ m4 ≤ 0 → ∀ r w', Q4 r w' → Af G mX3_readLine 56 59 [(0, .ref a1), (2, .int (nI m3)), (3, .int (nI m4))] [.ref a2, .ref a1] r w' Q) : Rn G mX3_readLine 48 [(0, .ref a1), (1, .ref a2), (2, .int (nI m3))] [.int (nI m4)] w Q := by
  refine r_istore_n (lv' := [(3, .int (nI m4)), (0, .ref a1), (1, .ref a2), (2, .int (nI m3))]) 25 49 rfl rfl (Nat.le_of_ble_eq_true rfl) rfl ?_
  refine r_aload_n 26 50 1 rfl rfl rfl ?_
  refine r_iload_n 27 51 0 rfl rfl rfl ?_
  refine y_if_le (a := m4) bd1 28 54 69 rfl rfl rfl (fun c1 => ?_) (fun c1 => ?_)
  · refine r_iconst 36 70 rfl rfl di_0 ?_
    refine r_iload_n 37 71 3 rfl rfl rfl ?_
    exact r_callV lkV_X3_41_X3 (C := RX3) (TT := TX3) (NN := 2) rfl o2 38 74 rfl rfl (by decide) [.int 0, .int (nI m3)] rfl rfl (Nat.le_of_ble_eq_true rfl) (Nat.le_of_ble_eq_true rfl) (e3 c1) (fun r w' h => Af.sub [1, 0] rfl ((k3 c1) r w' h))
  · refine r_aload_n 29 55 2 rfl rfl rfl ?_
    refine r_iload_n 30 56 0 rfl rfl rfl ?_
    exact r_callS lkS_X3_99 31 59 rfl rfl (by decide) [.int (nI m4)] rfl rfl (Nat.le_of_ble_eq_true rfl) (Nat.le_of_ble_eq_true rfl) (e4 c1) (fun r w' h => Af.sub [1, 3, 0] rfl ((k4 c1) r w' h))
theorem e_X3_readLine_74 {G : Gm} {κ : Nat → Nat} {φ : Nat → Option Nat} (hS : GS G κ φ) {w : Wd} {Q : Rs → Wd → Prop} {a1 : Nat} {m2 : Nat} {a3 : Nat} {m4 : Nat} (o1 : Lk G w a1 (.inl (nX3, [.ref a3, .int (nI m4)]))) {Q2 : Rs → Wd → Prop} (e2 : Ev G mX3_take [.ref a1, .int 61] w Q2) (k2 : ∀ r w', Q2 r w' → Af G mX3_readLine 77 80 [(0, .ref a1), (3, .int (nI m2))] [] r w' Q) : Rn G mX3_readLine 74 [(0, .ref a1), (3, .int (nI m2))] [] w Q := by
  refine r_aload_n 39 75 0 rfl rfl rfl ?_
  refine r_bipush 40 77 rfl rfl db_61 ?_
  exact r_callV lkV_X3_62_X3 (C := RX3) (TT := TX3) (NN := 2) rfl o1 41 80 rfl rfl (by decide) [.int 61] rfl rfl (Nat.le_of_ble_eq_true rfl) (Nat.le_of_ble_eq_true rfl) e2 (fun r w' h => Af.sub [0, 1] rfl (k2 r w' h))
theorem e_X3_readLine_59 {G : Gm} {κ : Nat → Nat} {φ : Nat → Option Nat} (hS : GS G κ φ) {w : Wd} {Q : Rs → Wd → Prop} {k_a1 : Nat} {m1 : Nat} {m2 : Nat} {a3 : Nat} {k_a2 : Nat} {p4 : Option Nat} {p5 : Option Nat} {p6 : Option Nat} {m7 : Nat} {x8 : Int32} {p9 : Option Nat} {p10 : Option Nat} {p11 : Option Nat} (o1 : Lk G w k_a2 (.inl (nJ8, [va_rf p4, va_rf p5, .null, va_rf p6, .int (nI m7), .int x8, va_rf p9, va_rf p10, va_rf p11]))) {Q2 : Rs → Wd → Prop} (e2 : Ev G mJ8_containsKey [.ref k_a2, .ref a3] w Q2) (k2 : ∀ r w', Q2 r w' → Af G mX3_readLine 59 62 [(0, .ref k_a1), (2, .int (nI m1)), (3, .int (nI m2))] [.ref k_a1] r w' Q) : Rn G mX3_readLine 59 [(0, .ref k_a1), (2, .int (nI m1)), (3, .int (nI m2))] [.ref a3, .ref k_a2, .ref k_a1] w Q := by
  exact r_callV lkV_X3_152_J8 (C := RJ8) (TT := TJ8) (NN := 9) rfl o1 32 62 rfl rfl (by decide) [.ref a3] rfl rfl (Nat.le_of_ble_eq_true rfl) (Nat.le_of_ble_eq_true rfl) e2 (fun r w' h => Af.sub [0, 1, 2] rfl (k2 r w' h))
theorem e_X3_readLine_80 {G : Gm} {κ : Nat → Nat} {φ : Nat → Option Nat} (hS : GS G κ φ) {w : Wd} {Q : Rs → Wd → Prop} {a1 : Nat} {m2 : Nat} {a3 : Nat} {m4 : Nat} (hg : 15 ≤ w.2.2) (o1 : Lk G w a1 (.inl (nX3, [.ref a3, .int (nI m4)]))) {Q2 : Rs → Wd → Prop} (e2 : Ev G mX3_name [.ref a1] (wnew w (.inl (nX7, [.int 0, .null, .null])) 3) Q2) (k2 : ∀ r w', Q2 r w' → Af G mX3_readLine 86 89 [(0, .ref a1)] [.int (nI m2), .ref w.2.1, .ref w.2.1] r w' Q) : Rn G mX3_readLine 80 [(0, .ref a1), (3, .int (nI m2))] [] w Q := by
  refine Rn.wok fun hwk => ?_
  refine r_new (fs := [.int 0, .null, .null]) (ty := tyX7) (T := TX7) (C := RX7) (N := 3) (ci := nX7) (n := 3) 42 83 rfl rfl rfl in_X7 tyX7_ok q1186 q1187 q97 rfl (by decide) (by show 12 + 3 ≤ w.2.2; omega) ?_
  show Rn G mX3_readLine 83 [(0, .ref a1), (3, .int (nI m2))] [.ref w.2.1] (wnew w (.inl (nX7, [.int 0, .null, .null])) 3) _
  refine r_dup 43 84 rfl rfl rfl ?_
  refine r_iload_n 44 85 1 rfl rfl rfl ?_
  refine r_aload_n 45 86 0 rfl rfl rfl ?_
  exact r_callV lkV_X3_140_X3 (C := RX3) (TT := TX3) (NN := 2) rfl (Lk.new_n o1 (by have := (o1.lt hwk); show a1 < w.2.1; omega)) 46 89 rfl rfl (by decide) [] rfl rfl (Nat.le_of_ble_eq_true rfl) (Nat.le_of_ble_eq_true rfl) e2 (fun r w' h => Af.sub [0] rfl (k2 r w' h))
theorem e_X3_readLine_62 {G : Gm} {κ : Nat → Nat} {φ : Nat → Option Nat} (hS : GS G κ φ) {w : Wd} {Q : Rs → Wd → Prop} {k_k_a1 : Nat} {m1 : Nat} {m2 : Nat} {x3 : Int32} {a4 : Nat} {m5 : Nat} (o1 : Lk G w k_k_a1 (.inl (nX3, [.ref a4, .int (nI m5)]))) {Q2 : Rs → Wd → Prop} (e2 : ¬ x3 = 0 → Ev G mX3_want_2 [.ref k_k_a1, .int 0, .int (nI m1)] w Q2) (k2 : ¬ x3 = 0 → ∀ r w', Q2 r w' → Af G mX3_readLine 71 74 [(0, .ref k_k_a1), (3, .int (nI m2))] [] r w' Q) {Q3 : Rs → Wd → Prop} (e3 : x3 = 0 → Ev G mX3_want_2 [.ref k_k_a1, .int 1, .int (nI m1)] w Q3) (k3 : x3 = 0 → ∀ r w', Q3 r w' → Af G mX3_readLine 71 74 [(0, .ref k_k_a1), (3, .int (nI m2))] [] r w' Q) : Rn G mX3_readLine 62 [(0, .ref k_k_a1), (2, .int (nI m1)), (3, .int (nI m2))] [.int x3, .ref k_k_a1] w Q := by
  refine r_if_ne 33 65 69 rfl rfl rfl (fun c1 => ?_) (fun c1 => ?_)
  · refine r_iconst 36 70 rfl rfl di_0 ?_
    refine r_iload_n 37 71 1 rfl rfl rfl ?_
    exact r_callV lkV_X3_41_X3 (C := RX3) (TT := TX3) (NN := 2) rfl o1 38 74 rfl rfl (by decide) [.int 0, .int (nI m1)] rfl rfl (Nat.le_of_ble_eq_true rfl) (Nat.le_of_ble_eq_true rfl) (e2 c1) (fun r w' h => Af.sub [0, 2] rfl ((k2 c1) r w' h))
  · refine r_iconst 34 66 rfl rfl di_1 ?_
    refine r_goto 35 70 rfl rfl ?_
    refine r_iload_n 37 71 1 rfl rfl rfl ?_
    exact r_callV lkV_X3_41_X3 (C := RX3) (TT := TX3) (NN := 2) rfl o1 38 74 rfl rfl (by decide) [.int 1, .int (nI m1)] rfl rfl (Nat.le_of_ble_eq_true rfl) (Nat.le_of_ble_eq_true rfl) (e3 c1) (fun r w' h => Af.sub [0, 2] rfl ((k3 c1) r w' h))
theorem e_X3_readLine_89 {G : Gm} {κ : Nat → Nat} {φ : Nat → Option Nat} (hS : GS G κ φ) {w : Wd} {Q : Rs → Wd → Prop} {a1 : Nat} {a2 : Nat} {m3 : Nat} {nww21 : Nat} {a4 : Nat} {m5 : Nat} (o1 : w.1 nww21 = some (.inl (nX7, [.int 0, .null, .null]))) (hg : 15 ≤ w.2.2) (o2 : Lk G w a1 (.inl (nX3, [.ref a4, .int (nI m5)]))) {Q3 : Rs → Wd → Prop} (e3 : Ev G mX3_take [.ref a1, .int 40] (wset (wset (wnew w (.inl (nJ6, [.int 0, .null, .int 0])) 3) w.2.1 (.inl (nJ6, [.int 0, .ref (κ 1), .int 0]))) nww21 (.inl (nX7, [.int (nI m3), .ref a2, .ref w.2.1]))) Q3) (k3 : ∀ r w', Q3 r w' → Af G mX3_readLine 97 100 [(0, .ref a1), (4, .ref nww21)] [] r w' Q) : Rn G mX3_readLine 89 [(0, .ref a1)] [.ref a2, .int (nI m3), .ref nww21, .ref nww21] w Q := by
  refine Rn.wok fun hwk => ?_
  refine r_callI lkI_X3_157 47 92 rfl rfl (by decide) [.int (nI m3), .ref a2] rfl rfl (Nat.le_of_ble_eq_true rfl) (Nat.le_of_ble_eq_true rfl) (e_X7_init hS (m2 := m3) (hg := by show 15 ≤ w.2.2; omega) (o1 := o1) (k2 := ?_)) (fun _ _ h => h)
  show Rn G mX3_readLine 92 [(0, .ref a1)] [.ref nww21] (wset (wset (wnew w (.inl (nJ6, [.int 0, .null, .int 0])) 3) w.2.1 (.inl (nJ6, [.int 0, .ref (κ 1), .int 0]))) nww21 (.inl (nX7, [.int (nI m3), .ref a2, .ref w.2.1]))) _
  refine r_astore (lv' := [(4, .ref nww21), (0, .ref a1)]) 48 94 rfl rfl (Nat.le_of_ble_eq_true rfl) rfl ?_
  refine r_aload_n 49 95 1 rfl rfl rfl ?_
  refine r_bipush 50 97 rfl rfl db_40 ?_
  exact r_callV lkV_X3_62_X3 (C := RX3) (TT := TX3) (NN := 2) rfl (Lk.set_n (Lk.set_n (Lk.new_n o2 (by have := (o2.lt hwk); show a1 < w.2.1; omega)) (Nat.ne_of_lt (show a1 < w.2.1 from (by have := Lk.lt o2 hwk; omega)))) (Lk.ne o2 o1 hwk (by intro h; simp at h))) 51 100 rfl rfl (by decide) [.int 40] rfl rfl (Nat.le_of_ble_eq_true rfl) (Nat.le_of_ble_eq_true rfl) e3 (fun r w' h => Af.sub [1, 0] rfl (k3 r w' h))
theorem e_X3_readLine_100 {G : Gm} {κ : Nat → Nat} {φ : Nat → Option Nat} (hS : GS G κ φ) {w : Wd} {Q : Rs → Wd → Prop} {a1 : Nat} {a2 : Nat} (k1 : Rn G mX3_readLine 103 [(0, .ref a1), (4, .ref a2), (5, .int 1)] [] w Q) : Rn G mX3_readLine 100 [(0, .ref a1), (4, .ref a2)] [] w Q := by
  refine r_iconst 52 101 rfl rfl di_1 ?_
  refine r_istore (lv' := [(5, .int 1), (0, .ref a1), (4, .ref a2)]) 53 103 rfl rfl (Nat.le_of_ble_eq_true rfl) rfl ?_
  exact r_sub [1, 2, 0] rfl k1
theorem e_X3_readLine_103 {G : Gm} {κ : Nat → Nat} {φ : Nat → Option Nat} (hS : GS G κ φ) {w : Wd} {Q : Rs → Wd → Prop} {a1 : Nat} {a2 : Nat} {x3 : Int32} {a4 : Nat} {m5 : Nat} {m6 : Nat} {a7 : Nat} {a8 : Nat} {x9 : Int32} {a10 : Nat} {m11 : Nat} (o1 : Lk G w a1 (.inl (nX3, [.ref a4, .int (nI m5)]))) {Q2 : Rs → Wd → Prop} (e2 : x3 = 0 → Ev G mX3_take [.ref a1, .int 41] w Q2) (k2 : x3 = 0 → ∀ r w', Q2 r w' → Af G mX3_readLine 168 171 [(0, .ref a1), (4, .ref a2)] [] r w' Q) (o3 : Lk G w a2 (.inl (nX7, [.int (nI m6), .ref a7, .ref a8]))) (o4 : Lk G w a8 (.inl (nJ6, [.int x9, .ref a10, .int (nI m11)]))) (bd5 : m11 < 2 ^ 31) {Q6 : Rs → Wd → Prop} (e6 : ¬ x3 = 0 → 8 ≤ m11 → Ev G mX3_want [.ref a1, .int 0] w Q6) (k6 : ¬ x3 = 0 → 8 ≤ m11 → ∀ r w', Q6 r w' → Af G mX3_readLine 127 130 [(0, .ref a1), (4, .ref a2)] [] r w' Q) {Q7 : Rs → Wd → Prop} (e7 : ¬ x3 = 0 → ¬ 8 ≤ m11 → Ev G mX3_want [.ref a1, .int 1] w Q7) (k7 : ¬ x3 = 0 → ¬ 8 ≤ m11 → ∀ r w', Q7 r w' → Af G mX3_readLine 127 130 [(0, .ref a1), (4, .ref a2)] [] r w' Q) : Rn G mX3_readLine 103 [(0, .ref a1), (4, .ref a2), (5, .int x3)] [] w Q := by
  refine r_iload 54 105 2 rfl rfl rfl ?_
  refine r_if_eq 55 108 165 rfl rfl rfl (fun c1 => ?_) (fun c1 => ?_)
  · refine r_aload_n 82 166 0 rfl rfl rfl ?_
    refine r_bipush 83 168 rfl rfl db_41 ?_
    exact r_callV lkV_X3_62_X3 (C := RX3) (TT := TX3) (NN := 2) rfl o1 84 171 rfl rfl (by decide) [.int 41] rfl rfl (Nat.le_of_ble_eq_true rfl) (Nat.le_of_ble_eq_true rfl) (e2 c1) (fun r w' h => Af.sub [0, 1] rfl ((k2 c1) r w' h))
  · refine r_aload_n 56 109 0 rfl rfl rfl ?_
    refine r_aload 57 111 1 rfl rfl rfl ?_
    refine r_get (v := .ref a8) fl_X3_160_X7 58 114 rfl rfl o3 rfl ?_
    refine r_callV lkV_X3_93_J6 (C := RJ6) (TT := TJ6) (NN := 3) rfl o4 59 117 rfl rfl (by decide) [] rfl rfl (Nat.le_of_ble_eq_true rfl) (Nat.le_of_ble_eq_true rfl) (e_J6_size hS (m4 := m11) (o1 := o4) (k2 := ?_)) (fun _ _ h => h)
    show Rn G mX3_readLine 117 [(0, .ref a1), (4, .ref a2), (5, .int x3)] [.int (nI m11), .ref a1] w _
    refine r_bipush 60 119 rfl rfl db_8 ?_
    refine y_icmp_ge (a := m11) (b := 8) bd5 (by decide) 61 122 126 rfl rfl rfl (fun c2 => ?_) (fun c2 => ?_)
    · refine r_iconst 64 127 rfl rfl di_0 ?_
      exact r_callV lkV_X3_49_X3 (C := RX3) (TT := TX3) (NN := 2) rfl o1 65 130 rfl rfl (by decide) [.int 0] rfl rfl (Nat.le_of_ble_eq_true rfl) (Nat.le_of_ble_eq_true rfl) (e6 c1 c2) (fun r w' h => Af.sub [0, 1] rfl ((k6 c1 c2) r w' h))
    · refine r_iconst 62 123 rfl rfl di_1 ?_
      refine r_goto 63 127 rfl rfl ?_
      exact r_callV lkV_X3_49_X3 (C := RX3) (TT := TX3) (NN := 2) rfl o1 65 130 rfl rfl (by decide) [.int 1] rfl rfl (Nat.le_of_ble_eq_true rfl) (Nat.le_of_ble_eq_true rfl) (e7 c1 c2) (fun r w' h => Af.sub [0, 1] rfl ((k7 c1 c2) r w' h))
theorem e_X3_readLine_171 {G : Gm} {κ : Nat → Nat} {φ : Nat → Option Nat} (hS : GS G κ φ) {w : Wd} {Q : Rs → Wd → Prop} {a1 : Nat} {a2 : Nat} {a3 : Nat} {m4 : Nat} (o1 : Lk G w a1 (.inl (nX3, [.ref a3, .int (nI m4)]))) {Q2 : Rs → Wd → Prop} (e2 : Ev G mX3_take [.ref a1, .int 59] w Q2) (k2 : ∀ r w', Q2 r w' → Af G mX3_readLine 174 177 [(4, .ref a2)] [] r w' Q) : Rn G mX3_readLine 171 [(0, .ref a1), (4, .ref a2)] [] w Q := by
  refine r_aload_n 85 172 0 rfl rfl rfl ?_
  refine r_bipush 86 174 rfl rfl db_59 ?_
  exact r_callV lkV_X3_62_X3 (C := RX3) (TT := TX3) (NN := 2) rfl o1 87 177 rfl rfl (by decide) [.int 59] rfl rfl (Nat.le_of_ble_eq_true rfl) (Nat.le_of_ble_eq_true rfl) e2 (fun r w' h => Af.sub [1] rfl (k2 r w' h))
theorem e_X3_readLine_130 {G : Gm} {κ : Nat → Nat} {φ : Nat → Option Nat} (hS : GS G κ φ) {w : Wd} {Q : Rs → Wd → Prop} {a1 : Nat} {a2 : Nat} {m3 : Nat} {a4 : Nat} {a5 : Nat} {a6 : Nat} {m7 : Nat} (o1 : Lk G w a2 (.inl (nX7, [.int (nI m3), .ref a4, .ref a5]))) (o2 : Lk G w a1 (.inl (nX3, [.ref a6, .int (nI m7)]))) {Q3 : Rs → Wd → Prop} (e3 : Ev G mX3_argument [.ref a1] w Q3) (k3 : ∀ r w', Q3 r w' → Af G mX3_readLine 136 139 [(0, .ref a1), (4, .ref a2)] [.ref a5] r w' Q) : Rn G mX3_readLine 130 [(0, .ref a1), (4, .ref a2)] [] w Q := by
  refine r_aload 66 132 1 rfl rfl rfl ?_
  refine r_get (v := .ref a5) fl_X3_160_X7 67 135 rfl rfl o1 rfl ?_
  refine r_aload_n 68 136 0 rfl rfl rfl ?_
  exact r_callV lkV_X3_164_X3 (C := RX3) (TT := TX3) (NN := 2) rfl o2 69 139 rfl rfl (by decide) [] rfl rfl (Nat.le_of_ble_eq_true rfl) (Nat.le_of_ble_eq_true rfl) e3 (fun r w' h => Af.sub [0, 1] rfl (k3 r w' h))
theorem e_X3_readLine_177 {G : Gm} {κ : Nat → Nat} {φ : Nat → Option Nat} (hS : GS G κ φ) {w : Wd} {Q : Rs → Wd → Prop} {a1 : Nat} (k1 : Q (.inl (some (.ref a1))) w) : Rn G mX3_readLine 177 [(4, .ref a1)] [] w Q := by
  refine r_aload 88 179 0 rfl rfl rfl ?_
  exact r_aret 89 rfl rfl (Or.inl ⟨_, rfl⟩) (Or.inr ⟨_, rfl⟩) k1
theorem e_X3_readLine_139 {G : Gm} {κ : Nat → Nat} {φ : Nat → Option Nat} (hS : GS G κ φ) {w : Wd} {Q : Rs → Wd → Prop} {a1 : Nat} {a2 : Nat} {a3 : Nat} {a4 : Nat} {x5 : Int32} {a6 : Nat} {m7 : Nat} (o1 : Lk G w a4 (.inl (nJ6, [.int x5, .ref a6, .int (nI m7)]))) {Q2 : Rs → Wd → Prop} (e2 : Ev G mJ6_add [.ref a4, .ref a3] w Q2) (k2 : ∀ r w', Q2 r w' → Af G mX3_readLine 139 142 [(0, .ref a1), (4, .ref a2)] [] r w' Q) : Rn G mX3_readLine 139 [(0, .ref a1), (4, .ref a2)] [.ref a3, .ref a4] w Q := by
  exact r_callV lkV_X3_105_J6 (C := RJ6) (TT := TJ6) (NN := 3) rfl o1 70 142 rfl rfl (by decide) [.ref a3] rfl rfl (Nat.le_of_ble_eq_true rfl) (Nat.le_of_ble_eq_true rfl) e2 (fun r w' h => Af.sub [0, 1] rfl (k2 r w' h))
theorem e_X3_readLine_142 {G : Gm} {κ : Nat → Nat} {φ : Nat → Option Nat} (hS : GS G κ φ) {w : Wd} {Q : Rs → Wd → Prop} {a1 : Nat} {a2 : Nat} {x3 : Int32} {a4 : Nat} {m5 : Nat} (o1 : Lk G w a1 (.inl (nX3, [.ref a4, .int (nI m5)]))) {Q2 : Rs → Wd → Prop} (e2 : Ev G mX3_is [.ref a1, .int 44] w Q2) (k2 : ∀ r w', Q2 r w' → Af G mX3_readLine 146 149 [(0, .ref a1), (4, .ref a2)] [] r w' Q) : Rn G mX3_readLine 142 [(0, .ref a1), (4, .ref a2)] [.int x3] w Q := by
  refine r_pop 71 143 rfl rfl rfl ?_
  refine r_aload_n 72 144 0 rfl rfl rfl ?_
  refine r_bipush 73 146 rfl rfl db_44 ?_
  exact r_callV lkV_X3_45_X3 (C := RX3) (TT := TX3) (NN := 2) rfl o1 74 149 rfl rfl (by decide) [.int 44] rfl rfl (Nat.le_of_ble_eq_true rfl) (Nat.le_of_ble_eq_true rfl) e2 (fun r w' h => Af.sub [0, 1] rfl (k2 r w' h))
theorem e_X3_readLine_149 {G : Gm} {κ : Nat → Nat} {φ : Nat → Option Nat} (hS : GS G κ φ) {w : Wd} {Q : Rs → Wd → Prop} {a1 : Nat} {a2 : Nat} {x3 : Int32} {a4 : Nat} {m5 : Nat} (k1 : x3 = 0 → Rn G mX3_readLine 103 [(0, .ref a1), (4, .ref a2), (5, .int x3)] [] w Q) (o2 : Lk G w a1 (.inl (nX3, [.ref a4, .int (nI m5)]))) {Q3 : Rs → Wd → Prop} (e3 : ¬ x3 = 0 → Ev G mX3_take [.ref a1, .int 44] w Q3) (k3 : ¬ x3 = 0 → ∀ r w', Q3 r w' → Af G mX3_readLine 159 162 [(0, .ref a1), (4, .ref a2), (5, .int x3)] [] r w' Q) : Rn G mX3_readLine 149 [(0, .ref a1), (4, .ref a2)] [.int x3] w Q := by
  refine r_istore (lv' := [(5, .int x3), (0, .ref a1), (4, .ref a2)]) 75 151 rfl rfl (Nat.le_of_ble_eq_true rfl) rfl ?_
  refine r_iload 76 153 0 rfl rfl rfl ?_
  refine r_if_eq 77 156 103 rfl rfl rfl (fun c1 => ?_) (fun c1 => ?_)
  · exact r_sub [1, 2, 0] rfl (k1 c1)
  · refine r_aload_n 78 157 1 rfl rfl rfl ?_
    refine r_bipush 79 159 rfl rfl db_44 ?_
    exact r_callV lkV_X3_62_X3 (C := RX3) (TT := TX3) (NN := 2) rfl o2 80 162 rfl rfl (by decide) [.int 44] rfl rfl (Nat.le_of_ble_eq_true rfl) (Nat.le_of_ble_eq_true rfl) (e3 c1) (fun r w' h => Af.sub [1, 2, 0] rfl ((k3 c1) r w' h))
theorem e_X3_readLine_162 {G : Gm} {κ : Nat → Nat} {φ : Nat → Option Nat} (hS : GS G κ φ) {w : Wd} {Q : Rs → Wd → Prop} {a1 : Nat} {a2 : Nat} {x3 : Int32} (k1 : Rn G mX3_readLine 103 [(0, .ref a1), (4, .ref a2), (5, .int x3)] [] w Q) : Rn G mX3_readLine 162 [(0, .ref a1), (4, .ref a2), (5, .int x3)] [] w Q := by
  refine r_goto 81 103 rfl rfl ?_
  exact k1
theorem e_X3_readKind {G : Gm} {κ : Nat → Nat} {φ : Nat → Option Nat} (hS : GS G κ φ) {w : Wd} {Q : Rs → Wd → Prop} {a1 : Nat} {a2 : Nat} {a3 : Nat} {m4 : Nat} (o1 : Lk G w a1 (.inl (nX3, [.ref a3, .int (nI m4)]))) {Q2 : Rs → Wd → Prop} (e2 : Ev G mX3_skip [.ref a1] w Q2) (k2 : ∀ r w', Q2 r w' → Af G mX3_readKind 1 4 [(0, .ref a1), (1, .ref a2)] [] r w' Q) : Ev G mX3_readKind [.ref a1, .ref a2] w Q := by
  show Rn G mX3_readKind 0 [(0, .ref a1), (1, .ref a2)] [] w Q
  refine r_aload_n 0 1 0 rfl rfl rfl ?_
  exact r_callV lkV_X3_29_X3 (C := RX3) (TT := TX3) (NN := 2) rfl o1 1 4 rfl rfl (by decide) [] rfl rfl (Nat.le_of_ble_eq_true rfl) (Nat.le_of_ble_eq_true rfl) e2 (fun r w' h => Af.sub [0, 1] rfl (k2 r w' h))
theorem e_X3_readKind_4 {G : Gm} {κ : Nat → Nat} {φ : Nat → Option Nat} (hS : GS G κ φ) {w : Wd} {Q : Rs → Wd → Prop} {a1 : Nat} {a2 : Nat} {a3 : Nat} {m4 : Nat} (o1 : Lk G w a1 (.inl (nX3, [.ref a3, .int (nI m4)]))) (hg : 15 ≤ w.2.2) {Q2 : Rs → Wd → Prop} (e2 : Ev G mX3_name [.ref a1] (wnew w (.inl (nX4, [.null, .null, .null])) 3) Q2) (k2 : ∀ r w', Q2 r w' → Af G mX3_readKind 14 17 [(0, .ref a1), (1, .ref a2), (2, .int (nI m4))] [.ref w.2.1, .ref w.2.1] r w' Q) : Rn G mX3_readKind 4 [(0, .ref a1), (1, .ref a2)] [] w Q := by
  refine Rn.wok fun hwk => ?_
  refine r_aload_n 2 5 0 rfl rfl rfl ?_
  refine r_get (v := .int (nI m4)) fl_X3_15_X3 3 8 rfl rfl o1 rfl ?_
  refine r_istore_n (lv' := [(2, .int (nI m4)), (0, .ref a1), (1, .ref a2)]) 4 9 rfl rfl (Nat.le_of_ble_eq_true rfl) rfl ?_
  refine r_new (fs := [.null, .null, .null]) (ty := tyX4) (T := TX4) (C := RX4) (N := 3) (ci := nX4) (n := 3) 5 12 rfl rfl rfl in_X4 tyX4_ok q293 q294 q85 rfl (by decide) (by show 12 + 3 ≤ w.2.2; omega) ?_
  show Rn G mX3_readKind 12 [(2, .int (nI m4)), (0, .ref a1), (1, .ref a2)] [.ref w.2.1] (wnew w (.inl (nX4, [.null, .null, .null])) 3) _
  refine r_dup 6 13 rfl rfl rfl ?_
  refine r_aload_n 7 14 1 rfl rfl rfl ?_
  exact r_callV lkV_X3_140_X3 (C := RX3) (TT := TX3) (NN := 2) rfl (Lk.new_n o1 (by have := (o1.lt hwk); show a1 < w.2.1; omega)) 8 17 rfl rfl (by decide) [] rfl rfl (Nat.le_of_ble_eq_true rfl) (Nat.le_of_ble_eq_true rfl) e2 (fun r w' h => Af.sub [1, 2, 0] rfl (k2 r w' h))
theorem e_X3_readKind_17 {G : Gm} {κ : Nat → Nat} {φ : Nat → Option Nat} (hS : GS G κ φ) {w : Wd} {Q : Rs → Wd → Prop} {a1 : Nat} {a2 : Nat} {m3 : Nat} {a4 : Nat} {nww21 : Nat} {x5 : Int32} {a6 : Nat} {m7 : Nat} (o1 : w.1 nww21 = some (.inl (nX4, [.null, .null, .null]))) (hg : 43 ≤ w.2.2) (o2 : Lk G w a2 (.inl (nJ6, [.int x5, .ref a6, .int (nI m7)]))) (bd3 : m7 < 2 ^ 31) {Q4 : Rs → Wd → Prop} (e4 : 12 ≤ m7 → Ev G mJ6_iterator [.ref a2] (wset (wset (wnew (wset (wnew (wset (wset (wnew w (.inl (nJ6, [.int 0, .null, .int 0])) 3) w.2.1 (.inl (nJ6, [.int 0, .ref (κ 1), .int 0]))) nww21 (.inl (nX4, [.null, .ref w.2.1, .null]))) (.inl (nJ21, [.null, .int 0, .int 0])) 3) (w.2.1 + 1) (.inl (nJ21, [.null, .int 0, .int 0]))) (arL 1 (fun _ => 0)) 1) (w.2.1 + 1) (.inl (nJ21, [.ref (w.2.1 + 2), .int 0, .int 0]))) nww21 (.inl (nX4, [.ref a4, .ref w.2.1, .ref (w.2.1 + 1)]))) Q4) (k4 : 12 ≤ m7 → ∀ r w', Q4 r w' → Af G mX3_readKind 38 41 [(0, .ref a1), (2, .int (nI m3)), (3, .ref nww21), (4, .int 0)] [] r w' Q) {Q5 : Rs → Wd → Prop} (e5 : ¬ 12 ≤ m7 → Ev G mJ6_iterator [.ref a2] (wset (wset (wnew (wset (wnew (wset (wset (wnew w (.inl (nJ6, [.int 0, .null, .int 0])) 3) w.2.1 (.inl (nJ6, [.int 0, .ref (κ 1), .int 0]))) nww21 (.inl (nX4, [.null, .ref w.2.1, .null]))) (.inl (nJ21, [.null, .int 0, .int 0])) 3) (w.2.1 + 1) (.inl (nJ21, [.null, .int 0, .int 0]))) (arL 1 (fun _ => 0)) 1) (w.2.1 + 1) (.inl (nJ21, [.ref (w.2.1 + 2), .int 0, .int 0]))) nww21 (.inl (nX4, [.ref a4, .ref w.2.1, .ref (w.2.1 + 1)]))) Q5) (k5 : ¬ 12 ≤ m7 → ∀ r w', Q5 r w' → Af G mX3_readKind 38 41 [(0, .ref a1), (2, .int (nI m3)), (3, .ref nww21), (4, .int 1)] [] r w' Q) : Rn G mX3_readKind 17 [(0, .ref a1), (1, .ref a2), (2, .int (nI m3))] [.ref a4, .ref nww21, .ref nww21] w Q := by
  refine Rn.wok fun hwk => ?_
  refine r_callI lkI_X3_169 9 20 rfl rfl (by decide) [.ref a4] rfl rfl (Nat.le_of_ble_eq_true rfl) (Nat.le_of_ble_eq_true rfl) (e_X4_init hS (hg := by show 43 ≤ w.2.2; omega) (o1 := o1) (k2 := ?_)) (fun _ _ h => h)
  show Rn G mX3_readKind 20 [(0, .ref a1), (1, .ref a2), (2, .int (nI m3))] [.ref nww21] (wset (wset (wnew (wset (wnew (wset (wset (wnew w (.inl (nJ6, [.int 0, .null, .int 0])) 3) w.2.1 (.inl (nJ6, [.int 0, .ref (κ 1), .int 0]))) nww21 (.inl (nX4, [.null, .ref w.2.1, .null]))) (.inl (nJ21, [.null, .int 0, .int 0])) 3) (w.2.1 + 1) (.inl (nJ21, [.null, .int 0, .int 0]))) (arL 1 (fun _ => 0)) 1) (w.2.1 + 1) (.inl (nJ21, [.ref (w.2.1 + 2), .int 0, .int 0]))) nww21 (.inl (nX4, [.ref a4, .ref w.2.1, .ref (w.2.1 + 1)]))) _
  refine r_astore_n (lv' := [(3, .ref nww21), (0, .ref a1), (1, .ref a2), (2, .int (nI m3))]) 10 21 rfl rfl (Nat.le_of_ble_eq_true rfl) rfl ?_
  refine r_aload_n 11 22 2 rfl rfl rfl ?_
  refine r_callV lkV_X3_93_J6 (C := RJ6) (TT := TJ6) (NN := 3) rfl (Lk.set_n (Lk.set_n (Lk.new_n (Lk.set_n (Lk.new_n (Lk.set_n (Lk.set_n (Lk.new_n o2 (by have := (o2.lt hwk); show a2 < w.2.1; omega)) (Nat.ne_of_lt (show a2 < w.2.1 from (by have := Lk.lt o2 hwk; omega)))) (Lk.ne o2 o1 hwk (by intro h; simp at h))) (by have := (o2.lt hwk); show a2 < (w.2.1 + 1); omega)) (Nat.ne_of_lt (show a2 < (w.2.1 + 1) from (by have := Lk.lt o2 hwk; omega)))) (by have := (o2.lt hwk); show a2 < (w.2.1 + 2); omega)) (Nat.ne_of_lt (show a2 < (w.2.1 + 1) from (by have := Lk.lt o2 hwk; omega)))) (Lk.ne o2 o1 hwk (by intro h; simp at h))) 12 25 rfl rfl (by decide) [] rfl rfl (Nat.le_of_ble_eq_true rfl) (Nat.le_of_ble_eq_true rfl) (e_J6_size hS (m4 := m7) (o1 := (Lk.set_n (Lk.set_n (Lk.new_n (Lk.set_n (Lk.new_n (Lk.set_n (Lk.set_n (Lk.new_n o2 (by have := (o2.lt hwk); show a2 < w.2.1; omega)) (Nat.ne_of_lt (show a2 < w.2.1 from (by have := Lk.lt o2 hwk; omega)))) (Lk.ne o2 o1 hwk (by intro h; simp at h))) (by have := (o2.lt hwk); show a2 < (w.2.1 + 1); omega)) (Nat.ne_of_lt (show a2 < (w.2.1 + 1) from (by have := Lk.lt o2 hwk; omega)))) (by have := (o2.lt hwk); show a2 < (w.2.1 + 2); omega)) (Nat.ne_of_lt (show a2 < (w.2.1 + 1) from (by have := Lk.lt o2 hwk; omega)))) (Lk.ne o2 o1 hwk (by intro h; simp at h)))) (k2 := ?_)) (fun _ _ h => h)
  show Rn G mX3_readKind 25 [(3, .ref nww21), (0, .ref a1), (1, .ref a2), (2, .int (nI m3))] [.int (nI m7)] (wset (wset (wnew (wset (wnew (wset (wset (wnew w (.inl (nJ6, [.int 0, .null, .int 0])) 3) w.2.1 (.inl (nJ6, [.int 0, .ref (κ 1), .int 0]))) nww21 (.inl (nX4, [.null, .ref w.2.1, .null]))) (.inl (nJ21, [.null, .int 0, .int 0])) 3) (w.2.1 + 1) (.inl (nJ21, [.null, .int 0, .int 0]))) (arL 1 (fun _ => 0)) 1) (w.2.1 + 1) (.inl (nJ21, [.ref (w.2.1 + 2), .int 0, .int 0]))) nww21 (.inl (nX4, [.ref a4, .ref w.2.1, .ref (w.2.1 + 1)]))) _
  refine r_bipush 13 27 rfl rfl db_12 ?_
  refine y_icmp_ge (a := m7) (b := 12) bd3 (by decide) 14 30 34 rfl rfl rfl (fun c1 => ?_) (fun c1 => ?_)
  · refine r_iconst 17 35 rfl rfl di_0 ?_
    refine r_istore (lv' := [(4, .int 0), (3, .ref nww21), (0, .ref a1), (1, .ref a2), (2, .int (nI m3))]) 18 37 rfl rfl (Nat.le_of_ble_eq_true rfl) rfl ?_
    refine r_aload_n 19 38 3 rfl rfl rfl ?_
    exact r_callV lkV_X3_172_J6 (C := RJ6) (TT := TJ6) (NN := 3) rfl (Lk.set_n (Lk.set_n (Lk.new_n (Lk.set_n (Lk.new_n (Lk.set_n (Lk.set_n (Lk.new_n o2 (by have := (o2.lt hwk); show a2 < w.2.1; omega)) (Nat.ne_of_lt (show a2 < w.2.1 from (by have := Lk.lt o2 hwk; omega)))) (Lk.ne o2 o1 hwk (by intro h; simp at h))) (by have := (o2.lt hwk); show a2 < (w.2.1 + 1); omega)) (Nat.ne_of_lt (show a2 < (w.2.1 + 1) from (by have := Lk.lt o2 hwk; omega)))) (by have := (o2.lt hwk); show a2 < (w.2.1 + 2); omega)) (Nat.ne_of_lt (show a2 < (w.2.1 + 1) from (by have := Lk.lt o2 hwk; omega)))) (Lk.ne o2 o1 hwk (by intro h; simp at h))) 20 41 rfl rfl (by decide) [] rfl rfl (Nat.le_of_ble_eq_true rfl) (Nat.le_of_ble_eq_true rfl) (e4 c1) (fun r w' h => Af.sub [2, 4, 1, 0] rfl ((k4 c1) r w' h))
  · refine r_iconst 15 31 rfl rfl di_1 ?_
    refine r_goto 16 35 rfl rfl ?_
    refine r_istore (lv' := [(4, .int 1), (3, .ref nww21), (0, .ref a1), (1, .ref a2), (2, .int (nI m3))]) 18 37 rfl rfl (Nat.le_of_ble_eq_true rfl) rfl ?_
    refine r_aload_n 19 38 3 rfl rfl rfl ?_
    exact r_callV lkV_X3_172_J6 (C := RJ6) (TT := TJ6) (NN := 3) rfl (Lk.set_n (Lk.set_n (Lk.new_n (Lk.set_n (Lk.new_n (Lk.set_n (Lk.set_n (Lk.new_n o2 (by have := (o2.lt hwk); show a2 < w.2.1; omega)) (Nat.ne_of_lt (show a2 < w.2.1 from (by have := Lk.lt o2 hwk; omega)))) (Lk.ne o2 o1 hwk (by intro h; simp at h))) (by have := (o2.lt hwk); show a2 < (w.2.1 + 1); omega)) (Nat.ne_of_lt (show a2 < (w.2.1 + 1) from (by have := Lk.lt o2 hwk; omega)))) (by have := (o2.lt hwk); show a2 < (w.2.1 + 2); omega)) (Nat.ne_of_lt (show a2 < (w.2.1 + 1) from (by have := Lk.lt o2 hwk; omega)))) (Lk.ne o2 o1 hwk (by intro h; simp at h))) 20 41 rfl rfl (by decide) [] rfl rfl (Nat.le_of_ble_eq_true rfl) (Nat.le_of_ble_eq_true rfl) (e5 c1) (fun r w' h => Af.sub [2, 4, 1, 0] rfl ((k5 c1) r w' h))
theorem e_X3_readKind_41 {G : Gm} {κ : Nat → Nat} {φ : Nat → Option Nat} (hS : GS G κ φ) {w : Wd} {Q : Rs → Wd → Prop} {a1 : Nat} {m2 : Nat} {a3 : Nat} {x4 : Int32} {a5 : Nat} (k1 : Rn G mX3_readKind 43 [(0, .ref a1), (2, .int (nI m2)), (3, .ref a3), (4, .int x4), (5, .ref a5)] [] w Q) : Rn G mX3_readKind 41 [(0, .ref a1), (2, .int (nI m2)), (3, .ref a3), (4, .int x4)] [.ref a5] w Q := by
  refine r_astore (lv' := [(5, .ref a5), (0, .ref a1), (2, .int (nI m2)), (3, .ref a3), (4, .int x4)]) 21 43 rfl rfl (Nat.le_of_ble_eq_true rfl) rfl ?_
  exact r_sub [1, 2, 3, 4, 0] rfl k1
theorem e_X3_readKind_43 {G : Gm} {κ : Nat → Nat} {φ : Nat → Option Nat} (hS : GS G κ φ) {w : Wd} {Q : Rs → Wd → Prop} {a1 : Nat} {m2 : Nat} {a3 : Nat} {x4 : Int32} {a5 : Nat} {m6 : Nat} {x7 : Int32} {x8 : Int32} {a9 : Nat} (o1 : Lk G w a5 (.inl (nJ22, [.int (nI m6), .int x7, .int x8, .ref a9]))) {Q2 : Rs → Wd → Prop} (e2 : Ev G mJ22_hasNext [.ref a5] w Q2) (k2 : ∀ r w', Q2 r w' → Af G mX3_readKind 45 50 [(0, .ref a1), (2, .int (nI m2)), (3, .ref a3), (4, .int x4), (5, .ref a5)] [] r w' Q) : Rn G mX3_readKind 43 [(0, .ref a1), (2, .int (nI m2)), (3, .ref a3), (4, .int x4), (5, .ref a5)] [] w Q := by
  refine r_aload 22 45 4 rfl rfl rfl ?_
  exact r_callF lkF_X3_176_J22 (C := RJ22) (TT := TJ22) (NN := 4) rfl o1 23 50 rfl rfl (by decide) [] rfl rfl (Nat.le_of_ble_eq_true rfl) (Nat.le_of_ble_eq_true rfl) e2 (fun r w' h => Af.sub [0, 1, 2, 3, 4] rfl (k2 r w' h))
theorem e_X3_readKind_50 {G : Gm} {κ : Nat → Nat} {φ : Nat → Option Nat} (hS : GS G κ φ) {w : Wd} {Q : Rs → Wd → Prop} {a1 : Nat} {m2 : Nat} {a3 : Nat} {x4 : Int32} {a5 : Nat} {x6 : Int32} {a7 : Nat} {m8 : Nat} {m9 : Nat} {x10 : Int32} {x11 : Int32} {a12 : Nat} (o1 : Lk G w a1 (.inl (nX3, [.ref a7, .int (nI m8)]))) {Q2 : Rs → Wd → Prop} (e2 : x6 = 0 → Ev G mX3_want_2 [.ref a1, .int x4, .int (nI m2)] w Q2) (k2 : x6 = 0 → ∀ r w', Q2 r w' → Af G mX3_readKind 97 100 [(0, .ref a1), (3, .ref a3)] [] r w' Q) (o3 : Lk G w a5 (.inl (nJ22, [.int (nI m9), .int x10, .int x11, .ref a12]))) {Q4 : Rs → Wd → Prop} (e4 : ¬ x6 = 0 → Ev G mJ22_next [.ref a5] w Q4) (k4 : ¬ x6 = 0 → ∀ r w', Q4 r w' → Af G mX3_readKind 55 60 [(0, .ref a1), (2, .int (nI m2)), (3, .ref a3), (4, .int x4), (5, .ref a5)] [] r w' Q) : Rn G mX3_readKind 50 [(0, .ref a1), (2, .int (nI m2)), (3, .ref a3), (4, .int x4), (5, .ref a5)] [.int x6] w Q := by
  refine r_if_eq 24 53 93 rfl rfl rfl (fun c1 => ?_) (fun c1 => ?_)
  · refine r_aload_n 42 94 0 rfl rfl rfl ?_
    refine r_iload 43 96 3 rfl rfl rfl ?_
    refine r_iload_n 44 97 1 rfl rfl rfl ?_
    exact r_callV lkV_X3_41_X3 (C := RX3) (TT := TX3) (NN := 2) rfl o1 45 100 rfl rfl (by decide) [.int x4, .int (nI m2)] rfl rfl (Nat.le_of_ble_eq_true rfl) (Nat.le_of_ble_eq_true rfl) (e2 c1) (fun r w' h => Af.sub [0, 2] rfl ((k2 c1) r w' h))
  · refine r_aload 25 55 4 rfl rfl rfl ?_
    exact r_callF lkF_X3_182_J22 (C := RJ22) (TT := TJ22) (NN := 4) rfl o3 26 60 rfl rfl (by decide) [] rfl rfl (Nat.le_of_ble_eq_true rfl) (Nat.le_of_ble_eq_true rfl) (e4 c1) (fun r w' h => Af.sub [0, 1, 2, 3, 4] rfl ((k4 c1) r w' h))
theorem e_X3_readKind_100 {G : Gm} {κ : Nat → Nat} {φ : Nat → Option Nat} (hS : GS G κ φ) {w : Wd} {Q : Rs → Wd → Prop} {a1 : Nat} {a2 : Nat} {a3 : Nat} {m4 : Nat} (o1 : Lk G w a1 (.inl (nX3, [.ref a3, .int (nI m4)]))) {Q2 : Rs → Wd → Prop} (e2 : Ev G mX3_take [.ref a1, .int 61] w Q2) (k2 : ∀ r w', Q2 r w' → Af G mX3_readKind 103 106 [(0, .ref a1), (3, .ref a2)] [] r w' Q) : Rn G mX3_readKind 100 [(0, .ref a1), (3, .ref a2)] [] w Q := by
  refine r_aload_n 46 101 0 rfl rfl rfl ?_
  refine r_bipush 47 103 rfl rfl db_61 ?_
  exact r_callV lkV_X3_62_X3 (C := RX3) (TT := TX3) (NN := 2) rfl o1 48 106 rfl rfl (by decide) [.int 61] rfl rfl (Nat.le_of_ble_eq_true rfl) (Nat.le_of_ble_eq_true rfl) e2 (fun r w' h => Af.sub [0, 1] rfl (k2 r w' h))
theorem e_X3_readKind_60 {G : Gm} {κ : Nat → Nat} {φ : Nat → Option Nat} (hS : GS G κ φ) {w : Wd} {Q : Rs → Wd → Prop} {a1 : Nat} {m2 : Nat} {a3 : Nat} {x4 : Int32} {a5 : Nat} {a6 : Nat} {a7 : Nat} {a8 : Nat} {a9 : Nat} {a10 : Nat} {a11 : Nat} {a12 : Nat} {a13 : Nat} {x14 : Int32} {x15 : Int32} (o1 : Lk G w a6 (.inl (nX4, [.ref a7, .ref a8, .ref a9]))) (o2 : Lk G w a3 (.inl (nX4, [.ref a10, .ref a11, .ref a12]))) (o3 : Lk G w a7 (.inl (nJ2, [.ref a13, .int 0, .int x14, .int x15]))) {Q4 : Rs → Wd → Prop} (e4 : Ev G mJ2_equals [.ref a7, .ref a10] w Q4) (k4 : ∀ r w', Q4 r w' → Af G mX3_readKind 76 79 [(0, .ref a1), (2, .int (nI m2)), (3, .ref a3), (5, .ref a5)] [.int x4] r w' Q) : Rn G mX3_readKind 60 [(0, .ref a1), (2, .int (nI m2)), (3, .ref a3), (4, .int x4), (5, .ref a5)] [.ref a6] w Q := by
  refine r_castS (C := RX4) (TT := TX4) (NN := 3) rfl q293 27 63 rfl rfl o1 ?_
  refine r_astore (lv' := [(6, .ref a6), (0, .ref a1), (2, .int (nI m2)), (3, .ref a3), (4, .int x4), (5, .ref a5)]) 28 65 rfl rfl (Nat.le_of_ble_eq_true rfl) rfl ?_
  refine r_iload 29 67 4 rfl rfl rfl ?_
  refine r_aload 30 69 0 rfl rfl rfl ?_
  refine r_get (v := .ref a7) fl_X3_186_X4 31 72 rfl rfl o1 rfl ?_
  refine r_aload_n 32 73 3 rfl rfl rfl ?_
  refine r_get (v := .ref a10) fl_X3_186_X4 33 76 rfl rfl o2 rfl ?_
  exact r_callV lkV_X3_189_J2 (C := RJ2) (TT := TJ2) (NN := 4) rfl o3 34 79 rfl rfl (by decide) [.ref a10] rfl rfl (Nat.le_of_ble_eq_true rfl) (Nat.le_of_ble_eq_true rfl) e4 (fun r w' h => Af.sub [1, 2, 3, 5] rfl (k4 r w' h))
theorem e_X3_readKind_106 {G : Gm} {κ : Nat → Nat} {φ : Nat → Option Nat} (hS : GS G κ φ) {w : Wd} {Q : Rs → Wd → Prop} {a1 : Nat} {a2 : Nat} {a3 : Nat} {m4 : Nat} (o1 : Lk G w a1 (.inl (nX3, [.ref a3, .int (nI m4)]))) {Q2 : Rs → Wd → Prop} (e2 : Ev G mX3_isOver [.ref a1] w Q2) (k2 : ∀ r w', Q2 r w' → Af G mX3_readKind 107 110 [(0, .ref a1), (3, .ref a2)] [] r w' Q) : Rn G mX3_readKind 106 [(0, .ref a1), (3, .ref a2)] [] w Q := by
  refine r_aload_n 49 107 0 rfl rfl rfl ?_
  exact r_callV lkV_X3_194_X3 (C := RX3) (TT := TX3) (NN := 2) rfl o1 50 110 rfl rfl (by decide) [] rfl rfl (Nat.le_of_ble_eq_true rfl) (Nat.le_of_ble_eq_true rfl) e2 (fun r w' h => Af.sub [0, 1] rfl (k2 r w' h))
theorem e_X3_readKind_79 {G : Gm} {κ : Nat → Nat} {φ : Nat → Option Nat} (hS : GS G κ φ) {w : Wd} {Q : Rs → Wd → Prop} {a1 : Nat} {m2 : Nat} {a3 : Nat} {a4 : Nat} {x5 : Int32} {x6 : Int32} (k1 : ¬ x5 = 0 → Rn G mX3_readKind 43 [(0, .ref a1), (2, .int (nI m2)), (3, .ref a3), (4, .int (x6 &&& (0 : Int32))), (5, .ref a4)] [] w Q) (k2 : x5 = 0 → Rn G mX3_readKind 43 [(0, .ref a1), (2, .int (nI m2)), (3, .ref a3), (4, .int (x6 &&& (1 : Int32))), (5, .ref a4)] [] w Q) : Rn G mX3_readKind 79 [(0, .ref a1), (2, .int (nI m2)), (3, .ref a3), (5, .ref a4)] [.int x5, .int x6] w Q := by
  refine r_if_ne 35 82 86 rfl rfl rfl (fun c1 => ?_) (fun c1 => ?_)
  · refine r_iconst 38 87 rfl rfl di_0 ?_
    refine r_iand 39 88 rfl rfl ?_
    refine r_istore (lv' := [(4, .int (x6 &&& (0 : Int32))), (0, .ref a1), (2, .int (nI m2)), (3, .ref a3), (5, .ref a4)]) 40 90 rfl rfl (Nat.le_of_ble_eq_true rfl) rfl ?_
    refine r_goto 41 43 rfl rfl ?_
    exact r_sub [1, 2, 3, 0, 4] rfl (k1 c1)
  · refine r_iconst 36 83 rfl rfl di_1 ?_
    refine r_goto 37 87 rfl rfl ?_
    refine r_iand 39 88 rfl rfl ?_
    refine r_istore (lv' := [(4, .int (x6 &&& (1 : Int32))), (0, .ref a1), (2, .int (nI m2)), (3, .ref a3), (5, .ref a4)]) 40 90 rfl rfl (Nat.le_of_ble_eq_true rfl) rfl ?_
    refine r_goto 41 43 rfl rfl ?_
    exact r_sub [1, 2, 3, 0, 4] rfl (k2 c1)
theorem e_X3_readKind_110 {G : Gm} {κ : Nat → Nat} {φ : Nat → Option Nat} (hS : GS G κ φ) {w : Wd} {Q : Rs → Wd → Prop} {a1 : Nat} {a2 : Nat} {x3 : Int32} {a4 : Nat} {m5 : Nat} (o1 : Lk G w a1 (.inl (nX3, [.ref a4, .int (nI m5)]))) {Q2 : Rs → Wd → Prop} (e2 : x3 = 0 → Ev G mX3_here [.ref a1] w Q2) (k2 : x3 = 0 → ∀ r w', Q2 r w' → Af G mX3_readKind 120 123 [(0, .ref a1), (3, .ref a2)] [.ref (κ 29)] r w' Q) {Q3 : Rs → Wd → Prop} (e3 : ¬ x3 = 0 → Ev G mX3_want [.ref a1, .int 0] w Q3) (k3 : ¬ x3 = 0 → ∀ r w', Q3 r w' → Af G mX3_readKind 148 151 [(0, .ref a1), (3, .ref a2), (5, .int (-1))] [] r w' Q) : Rn G mX3_readKind 110 [(0, .ref a1), (3, .ref a2)] [.int x3] w Q := by
  refine r_if_eq 51 113 117 rfl rfl rfl (fun c1 => ?_) (fun c1 => ?_)
  · refine r_ldcS (tx := "ITRLME") (a := κ 29) (hS 29).1 54 119 rfl rfl ?_
    refine r_aload_n 55 120 0 rfl rfl rfl ?_
    exact r_callV lkV_X3_32_X3 (C := RX3) (TT := TX3) (NN := 2) rfl o1 56 123 rfl rfl (by decide) [] rfl rfl (Nat.le_of_ble_eq_true rfl) (Nat.le_of_ble_eq_true rfl) (e2 c1) (fun r w' h => Af.sub [0, 1] rfl ((k2 c1) r w' h))
  · refine r_iconst 52 114 rfl rfl di_m1 ?_
    refine r_goto 53 126 rfl rfl ?_
    refine r_istore (lv' := [(5, .int (-1)), (0, .ref a1), (3, .ref a2)]) 58 128 rfl rfl (Nat.le_of_ble_eq_true rfl) rfl ?_
    refine r_aload_n 59 129 1 rfl rfl rfl ?_
    refine r_iload 60 131 0 rfl rfl rfl ?_
    refine r_if_lt 61 134 147 rfl rfl rfl (fun _ => ?_) (fun c => absurd c (by decide))
    refine r_iconst 68 148 rfl rfl di_0 ?_
    exact r_callV lkV_X3_49_X3 (C := RX3) (TT := TX3) (NN := 2) rfl o1 69 151 rfl rfl (by decide) [.int 0] rfl rfl (Nat.le_of_ble_eq_true rfl) (Nat.le_of_ble_eq_true rfl) (e3 c1) (fun r w' h => Af.sub [1, 2, 0] rfl ((k3 c1) r w' h))
theorem e_X3_readKind_123 {G : Gm} {κ : Nat → Nat} {φ : Nat → Option Nat} (hS : GS G κ φ) {w : Wd} {Q : Rs → Wd → Prop} {a1 : Nat} {a2 : Nat} {m3 : Nat} {a4 : Nat} {x5 : Int32} {x6 : Int32} (o1 : Lk G w (κ 29) (.inl (nJ2, [.ref a4, .int 0, .int x5, .int x6]))) {Q2 : Rs → Wd → Prop} (e2 : Ev G mJ2_indexOf [.ref (κ 29), .int (nI m3)] w Q2) (k2 : ∀ r w', Q2 r w' → Af G mX3_readKind 123 126 [(0, .ref a1), (3, .ref a2)] [] r w' Q) : Rn G mX3_readKind 123 [(0, .ref a1), (3, .ref a2)] [.int (nI m3), .ref (κ 29)] w Q := by
  exact r_callV lkV_X3_199_J2 (C := RJ2) (TT := TJ2) (NN := 4) rfl o1 57 126 rfl rfl (by decide) [.int (nI m3)] rfl rfl (Nat.le_of_ble_eq_true rfl) (Nat.le_of_ble_eq_true rfl) e2 (fun r w' h => Af.sub [0, 1] rfl (k2 r w' h))
theorem e_X3_readKind_151 {G : Gm} {κ : Nat → Nat} {φ : Nat → Option Nat} (hS : GS G κ φ) {w : Wd} {Q : Rs → Wd → Prop} {a1 : Nat} {a2 : Nat} {x3 : Int32} {a4 : Nat} {m5 : Nat} (o1 : w.1 a1 = some (.inl (nX3, [.ref a4, .int (nI m5)]))) {Q2 : Rs → Wd → Prop} (e2 : Ev G mX3_is [.ref a1, .int 63] (wset w a1 (.inl (nX3, [.ref a4, .int (nI (m5 + 1))]))) Q2) (k2 : ∀ r w', Q2 r w' → Af G mX3_readKind 164 167 [(0, .ref a1), (3, .ref a2), (5, .int x3)] [] r w' Q) : Rn G mX3_readKind 151 [(0, .ref a1), (3, .ref a2), (5, .int x3)] [] w Q := by
  refine r_aload_n 70 152 0 rfl rfl rfl ?_
  refine r_dup 71 153 rfl rfl rfl ?_
  refine r_get (v := .int (nI m5)) fl_X3_15_X3 72 156 rfl rfl (Or.inl o1) rfl ?_
  refine r_iconst 73 157 rfl rfl di_1 ?_
  refine r_iadd 74 158 rfl rfl ?_
  refine x_eq (y := (nI (m5 + 1))) (nI_add _ _) ?_
  refine r_put (i := 1) fl_X3_15_X3 in_X3 q228 (ty0 := tyX3) tyX3_ok nmX3 75 161 rfl rfl o1 rfl rfl rfl (Nat.le_of_ble_eq_true rfl) ?_
  show Rn G mX3_readKind 161 [(0, .ref a1), (3, .ref a2), (5, .int x3)] [] (wset w a1 (.inl (nX3, [.ref a4, .int (nI (m5 + 1))]))) _
  refine r_aload_n 76 162 0 rfl rfl rfl ?_
  refine r_bipush 77 164 rfl rfl db_63 ?_
  exact r_callV lkV_X3_45_X3 (C := RX3) (TT := TX3) (NN := 2) rfl (Or.inl wset_s) 78 167 rfl rfl (by decide) [.int 63] rfl rfl (Nat.le_of_ble_eq_true rfl) (Nat.le_of_ble_eq_true rfl) e2 (fun r w' h => Af.sub [0, 1, 2] rfl (k2 r w' h))
theorem e_X3_readKind_126 {G : Gm} {κ : Nat → Nat} {φ : Nat → Option Nat} (hS : GS G κ φ) {w : Wd} {Q : Rs → Wd → Prop} {a1 : Nat} {a2 : Nat} {x3 : Int32} {a4 : Nat} {m5 : Nat} {a6 : Nat} {a7 : Nat} {a8 : Nat} {x9 : Int32} {a10 : Nat} {m11 : Nat} (o1 : Lk G w a1 (.inl (nX3, [.ref a4, .int (nI m5)]))) {Q2 : Rs → Wd → Prop} (e2 : x3 < 0 → Ev G mX3_want [.ref a1, .int 0] w Q2) (k2 : x3 < 0 → ∀ r w', Q2 r w' → Af G mX3_readKind 148 151 [(0, .ref a1), (3, .ref a2), (5, .int x3)] [] r w' Q) (o3 : Lk G w a2 (.inl (nX4, [.ref a6, .ref a7, .ref a8]))) (o4 : Lk G w a7 (.inl (nJ6, [.int x9, .ref a10, .int (nI m11)]))) (bd5 : m11 < 2 ^ 31) {Q6 : Rs → Wd → Prop} (e6 : ¬ x3 < 0 → 8 ≤ m11 → Ev G mX3_want [.ref a1, .int 0] w Q6) (k6 : ¬ x3 < 0 → 8 ≤ m11 → ∀ r w', Q6 r w' → Af G mX3_readKind 148 151 [(0, .ref a1), (3, .ref a2), (5, .int x3)] [] r w' Q) {Q7 : Rs → Wd → Prop} (e7 : ¬ x3 < 0 → ¬ 8 ≤ m11 → Ev G mX3_want [.ref a1, .int 1] w Q7) (k7 : ¬ x3 < 0 → ¬ 8 ≤ m11 → ∀ r w', Q7 r w' → Af G mX3_readKind 148 151 [(0, .ref a1), (3, .ref a2), (5, .int x3)] [] r w' Q) : Rn G mX3_readKind 126 [(0, .ref a1), (3, .ref a2)] [.int x3] w Q := by
  refine r_istore (lv' := [(5, .int x3), (0, .ref a1), (3, .ref a2)]) 58 128 rfl rfl (Nat.le_of_ble_eq_true rfl) rfl ?_
  refine r_aload_n 59 129 1 rfl rfl rfl ?_
  refine r_iload 60 131 0 rfl rfl rfl ?_
  refine r_if_lt 61 134 147 rfl rfl rfl (fun c1 => ?_) (fun c1 => ?_)
  · refine r_iconst 68 148 rfl rfl di_0 ?_
    exact r_callV lkV_X3_49_X3 (C := RX3) (TT := TX3) (NN := 2) rfl o1 69 151 rfl rfl (by decide) [.int 0] rfl rfl (Nat.le_of_ble_eq_true rfl) (Nat.le_of_ble_eq_true rfl) (e2 c1) (fun r w' h => Af.sub [1, 2, 0] rfl ((k2 c1) r w' h))
  · refine r_aload_n 62 135 2 rfl rfl rfl ?_
    refine r_callV lkV_X3_203_X4 (C := RX4) (TT := TX4) (NN := 3) rfl o3 63 138 rfl rfl (by decide) [] rfl rfl (Nat.le_of_ble_eq_true rfl) (Nat.le_of_ble_eq_true rfl) (e_X4_size hS (m7 := m11) (o1 := o3) (o2 := o4) (k3 := ?_)) (fun _ _ h => h)
    show Rn G mX3_readKind 138 [(5, .int x3), (0, .ref a1), (3, .ref a2)] [.int (nI m11), .ref a1] w _
    refine r_bipush 64 140 rfl rfl db_8 ?_
    refine y_icmp_ge (a := m11) (b := 8) bd5 (by decide) 65 143 147 rfl rfl rfl (fun c2 => ?_) (fun c2 => ?_)
    · refine r_iconst 68 148 rfl rfl di_0 ?_
      exact r_callV lkV_X3_49_X3 (C := RX3) (TT := TX3) (NN := 2) rfl o1 69 151 rfl rfl (by decide) [.int 0] rfl rfl (Nat.le_of_ble_eq_true rfl) (Nat.le_of_ble_eq_true rfl) (e6 c1 c2) (fun r w' h => Af.sub [1, 2, 0] rfl ((k6 c1 c2) r w' h))
    · refine r_iconst 66 144 rfl rfl di_1 ?_
      refine r_goto 67 148 rfl rfl ?_
      exact r_callV lkV_X3_49_X3 (C := RX3) (TT := TX3) (NN := 2) rfl o1 69 151 rfl rfl (by decide) [.int 1] rfl rfl (Nat.le_of_ble_eq_true rfl) (Nat.le_of_ble_eq_true rfl) (e7 c1 c2) (fun r w' h => Af.sub [1, 2, 0] rfl ((k7 c1 c2) r w' h))
theorem e_X3_readKind_167 {G : Gm} {κ : Nat → Nat} {φ : Nat → Option Nat} (hS : GS G κ φ) {w : Wd} {Q : Rs → Wd → Prop} {a1 : Nat} {a2 : Nat} {x3 : Int32} {x4 : Int32} {a5 : Nat} {a6 : Nat} {a7 : Nat} {a8 : Nat} {x9 : Int32} {a10 : Nat} {m11 : Nat} {a12 : Nat} {m13 : Nat} (o1 : Lk G w a2 (.inl (nX4, [.ref a5, .ref a6, .ref a7]))) (hg : 19 ≤ w.2.2) (b2 : x4 = 0 → vp_in x3 7) (q3 : x4 = 0 → ((fun j => some (κ (10 + j))) (x3 : Int32).toNatClampNeg) = some a8) (o4 : Lk G w a6 (.inl (nJ6, [.int x9, .ref a10, .int (nI m11)]))) {Q5 : Rs → Wd → Prop} (e5 : x4 = 0 → Ev G mJ6_add [.ref a6, .ref a8] (wnew w (arR "ExchangeText$Sort" 7 (fun j => some (κ (10 + j)))) 7) Q5) (k5 : x4 = 0 → ∀ r w', Q5 r w' → Af G mX3_readKind 197 200 [(0, .ref a1), (3, .ref a2)] [] r w' Q) (o6 : Lk G w a1 (.inl (nX3, [.ref a12, .int (nI m13)]))) {Q7 : Rs → Wd → Prop} (e7 : ¬ x4 = 0 → Ev G mX3_take [.ref a1, .int 63] w Q7) (k7 : ¬ x4 = 0 → ∀ r w', Q7 r w' → Af G mX3_readKind 173 176 [(0, .ref a1), (3, .ref a2), (5, .int x3)] [] r w' Q) : Rn G mX3_readKind 167 [(0, .ref a1), (3, .ref a2), (5, .int x3)] [.int x4] w Q := by
  refine Rn.wok fun hwk => ?_
  refine r_if_eq 79 170 187 rfl rfl rfl (fun c1 => ?_) (fun c1 => ?_)
  · refine r_aload_n 88 188 1 rfl rfl rfl ?_
    refine r_getN (i := 1) (host := "ExchangeText") (T := TX4) (C := RX4) (NN := 3) rfl (by decide) q643 89 191 rfl rfl o1 rfl ?_
    refine r_callS lkS_X3_216 90 194 rfl rfl (by decide) [] rfl rfl (Nat.le_of_ble_eq_true rfl) (Nat.le_of_ble_eq_true rfl) (e_X6_values hS (hg := by show 19 ≤ w.2.2; omega) (k1 := ?_)) (fun _ _ h => h)
    show Rn G mX3_readKind 194 [(0, .ref a1), (3, .ref a2), (5, .int x3)] [.ref w.2.1, .ref a6] (wnew w (arR "ExchangeText$Sort" 7 (fun j => some (κ (10 + j)))) 7) _
    refine r_iload 91 196 2 rfl rfl rfl ?_
    refine x_aald 92 197 rfl rfl (Or.inl wnew_s) (b2 c1) (q3 c1) ?_
    show Rn G mX3_readKind 197 [(0, .ref a1), (3, .ref a2), (5, .int x3)] [.ref a8, .ref a6] (wnew w (arR "ExchangeText$Sort" 7 (fun j => some (κ (10 + j)))) 7) _
    exact r_callV lkV_X3_105_J6 (C := RJ6) (TT := TJ6) (NN := 3) rfl (Lk.new_n o4 (by have := (o4.lt hwk); show a6 < w.2.1; omega)) 93 200 rfl rfl (by decide) [.ref a8] rfl rfl (Nat.le_of_ble_eq_true rfl) (Nat.le_of_ble_eq_true rfl) (e5 c1) (fun r w' h => Af.sub [0, 1] rfl ((k5 c1) r w' h))
  · refine r_aload_n 80 171 0 rfl rfl rfl ?_
    refine r_bipush 81 173 rfl rfl db_63 ?_
    exact r_callV lkV_X3_62_X3 (C := RX3) (TT := TX3) (NN := 2) rfl o6 82 176 rfl rfl (by decide) [.int 63] rfl rfl (Nat.le_of_ble_eq_true rfl) (Nat.le_of_ble_eq_true rfl) (e7 c1) (fun r w' h => Af.sub [0, 1, 2] rfl ((k7 c1) r w' h))
theorem e_X3_readKind_200 {G : Gm} {κ : Nat → Nat} {φ : Nat → Option Nat} (hS : GS G κ φ) {w : Wd} {Q : Rs → Wd → Prop} {a1 : Nat} {a2 : Nat} {x3 : Int32} {a4 : Nat} {m5 : Nat} (o1 : Lk G w a1 (.inl (nX3, [.ref a4, .int (nI m5)]))) {Q2 : Rs → Wd → Prop} (e2 : Ev G mX3_is [.ref a1, .int 59] w Q2) (k2 : ∀ r w', Q2 r w' → Af G mX3_readKind 204 207 [(0, .ref a1), (3, .ref a2)] [] r w' Q) : Rn G mX3_readKind 200 [(0, .ref a1), (3, .ref a2)] [.int x3] w Q := by
  refine r_pop 94 201 rfl rfl rfl ?_
  refine r_aload_n 95 202 0 rfl rfl rfl ?_
  refine r_bipush 96 204 rfl rfl db_59 ?_
  exact r_callV lkV_X3_45_X3 (C := RX3) (TT := TX3) (NN := 2) rfl o1 97 207 rfl rfl (by decide) [.int 59] rfl rfl (Nat.le_of_ble_eq_true rfl) (Nat.le_of_ble_eq_true rfl) e2 (fun r w' h => Af.sub [0, 1] rfl (k2 r w' h))
theorem e_X3_readKind_176 {G : Gm} {κ : Nat → Nat} {φ : Nat → Option Nat} (hS : GS G κ φ) {w : Wd} {Q : Rs → Wd → Prop} {a1 : Nat} {a2 : Nat} {x3 : Int32} {a4 : Nat} {a5 : Nat} {a6 : Nat} {x7 : Int32} {a8 : Nat} {m9 : Nat} {a10 : Nat} {m11 : Nat} (o1 : Lk G w a2 (.inl (nX4, [.ref a4, .ref a5, .ref a6]))) (o2 : Lk G w a5 (.inl (nJ6, [.int x7, .ref a8, .int (nI m9)]))) (o3 : Lk G w a6 (.inl (nJ21, [.ref a10, .int (nI m11), .int 0]))) {Q4 : Rs → Wd → Prop} (e4 : Ev G mJ21_set [.ref a6, .int (nI m9)] w Q4) (k4 : ∀ r w', Q4 r w' → Af G mX3_readKind 184 187 [(0, .ref a1), (3, .ref a2), (5, .int x3)] [] r w' Q) : Rn G mX3_readKind 176 [(0, .ref a1), (3, .ref a2), (5, .int x3)] [] w Q := by
  refine r_aload_n 83 177 1 rfl rfl rfl ?_
  refine r_getN (i := 2) (host := "ExchangeText") (T := TX4) (C := RX4) (NN := 3) rfl (by decide) q645 84 180 rfl rfl o1 rfl ?_
  refine r_aload_n 85 181 1 rfl rfl rfl ?_
  refine r_callV lkV_X3_203_X4 (C := RX4) (TT := TX4) (NN := 3) rfl o1 86 184 rfl rfl (by decide) [] rfl rfl (Nat.le_of_ble_eq_true rfl) (Nat.le_of_ble_eq_true rfl) (e_X4_size hS (m7 := m9) (o1 := o1) (o2 := o2) (k3 := ?_)) (fun _ _ h => h)
  show Rn G mX3_readKind 184 [(0, .ref a1), (3, .ref a2), (5, .int x3)] [.int (nI m9), .ref a6] w _
  exact r_callV lkV_X3_208_J21 (C := RJ21) (TT := TJ21) (NN := 3) rfl o3 87 187 rfl rfl (by decide) [.int (nI m9)] rfl rfl (Nat.le_of_ble_eq_true rfl) (Nat.le_of_ble_eq_true rfl) e4 (fun r w' h => Af.sub [0, 1, 2] rfl (k4 r w' h))
theorem e_X3_readKind_207 {G : Gm} {κ : Nat → Nat} {φ : Nat → Option Nat} (hS : GS G κ φ) {w : Wd} {Q : Rs → Wd → Prop} {a1 : Nat} {a2 : Nat} {x3 : Int32} {a4 : Nat} {m5 : Nat} (k1 : x3 = 0 → Rn G mX3_readKind 106 [(0, .ref a1), (3, .ref a2)] [] w Q) (o2 : Lk G w a1 (.inl (nX3, [.ref a4, .int (nI m5)]))) {Q3 : Rs → Wd → Prop} (e3 : ¬ x3 = 0 → Ev G mX3_take [.ref a1, .int 59] w Q3) (k3 : ¬ x3 = 0 → ∀ r w', Q3 r w' → Af G mX3_readKind 213 216 [(3, .ref a2)] [] r w' Q) : Rn G mX3_readKind 207 [(0, .ref a1), (3, .ref a2)] [.int x3] w Q := by
  refine r_if_eq 98 210 106 rfl rfl rfl (fun c1 => ?_) (fun c1 => ?_)
  · exact (k1 c1)
  · refine r_aload_n 99 211 0 rfl rfl rfl ?_
    refine r_bipush 100 213 rfl rfl db_59 ?_
    exact r_callV lkV_X3_62_X3 (C := RX3) (TT := TX3) (NN := 2) rfl o2 101 216 rfl rfl (by decide) [.int 59] rfl rfl (Nat.le_of_ble_eq_true rfl) (Nat.le_of_ble_eq_true rfl) (e3 c1) (fun r w' h => Af.sub [1] rfl ((k3 c1) r w' h))
theorem e_X3_readKind_187 {G : Gm} {κ : Nat → Nat} {φ : Nat → Option Nat} (hS : GS G κ φ) {w : Wd} {Q : Rs → Wd → Prop} {a1 : Nat} {a2 : Nat} {x3 : Int32} {a4 : Nat} {a5 : Nat} {a6 : Nat} {a7 : Nat} {x8 : Int32} {a9 : Nat} {m10 : Nat} (o1 : Lk G w a2 (.inl (nX4, [.ref a4, .ref a5, .ref a6]))) (hg : 19 ≤ w.2.2) (b2 : vp_in x3 7) (q3 : ((fun j => some (κ (10 + j))) (x3 : Int32).toNatClampNeg) = some a7) (o4 : Lk G w a5 (.inl (nJ6, [.int x8, .ref a9, .int (nI m10)]))) {Q5 : Rs → Wd → Prop} (e5 : Ev G mJ6_add [.ref a5, .ref a7] (wnew w (arR "ExchangeText$Sort" 7 (fun j => some (κ (10 + j)))) 7) Q5) (k5 : ∀ r w', Q5 r w' → Af G mX3_readKind 197 200 [(0, .ref a1), (3, .ref a2)] [] r w' Q) : Rn G mX3_readKind 187 [(0, .ref a1), (3, .ref a2), (5, .int x3)] [] w Q := by
  refine Rn.wok fun hwk => ?_
  refine r_aload_n 88 188 1 rfl rfl rfl ?_
  refine r_getN (i := 1) (host := "ExchangeText") (T := TX4) (C := RX4) (NN := 3) rfl (by decide) q643 89 191 rfl rfl o1 rfl ?_
  refine r_callS lkS_X3_216 90 194 rfl rfl (by decide) [] rfl rfl (Nat.le_of_ble_eq_true rfl) (Nat.le_of_ble_eq_true rfl) (e_X6_values hS (hg := by show 19 ≤ w.2.2; omega) (k1 := ?_)) (fun _ _ h => h)
  show Rn G mX3_readKind 194 [(0, .ref a1), (3, .ref a2), (5, .int x3)] [.ref w.2.1, .ref a5] (wnew w (arR "ExchangeText$Sort" 7 (fun j => some (κ (10 + j)))) 7) _
  refine r_iload 91 196 2 rfl rfl rfl ?_
  refine x_aald 92 197 rfl rfl (Or.inl wnew_s) b2 q3 ?_
  show Rn G mX3_readKind 197 [(0, .ref a1), (3, .ref a2), (5, .int x3)] [.ref a7, .ref a5] (wnew w (arR "ExchangeText$Sort" 7 (fun j => some (κ (10 + j)))) 7) _
  exact r_callV lkV_X3_105_J6 (C := RJ6) (TT := TJ6) (NN := 3) rfl (Lk.new_n o4 (by have := (o4.lt hwk); show a5 < w.2.1; omega)) 93 200 rfl rfl (by decide) [.ref a7] rfl rfl (Nat.le_of_ble_eq_true rfl) (Nat.le_of_ble_eq_true rfl) e5 (fun r w' h => Af.sub [0, 1] rfl (k5 r w' h))
theorem e_X3_readKind_216 {G : Gm} {κ : Nat → Nat} {φ : Nat → Option Nat} (hS : GS G κ φ) {w : Wd} {Q : Rs → Wd → Prop} {a1 : Nat} (k1 : Q (.inl (some (.ref a1))) w) : Rn G mX3_readKind 216 [(3, .ref a1)] [] w Q := by
  refine r_aload_n 102 217 0 rfl rfl rfl ?_
  exact r_aret 103 rfl rfl (Or.inl ⟨_, rfl⟩) (Or.inr ⟨_, rfl⟩) k1
